/-! LAYER 3: both sides at once, what is laid (printed by tools/gen_j1.py) -/
set_option maxRecDepth 100000
section J1
variable {G : ai_G} {X : Nat} {y : yS} {s : mS} {μ : Mu}
theorem wfM.nil (h : wfM μ) : wfM (uNil μ) := h.lay (by omega) (by omega)
theorem wfM.row {n best : Int} (h : wfM μ) (h1 : 0 ≤ n) (h2 : n ≤ 7) : wfM (uRow μ n best) := by
  unfold uRow
  split
  · exact h.nil
  · exact h.lay h1 h2
theorem wfM.cool {b what : Int} (h : wfM μ) : wfM (uCool μ b what) := by
  unfold uCool
  split
  · rename_i hc
    have := lft_b h.1 h.2.1 hc.1.1 hc.1.2
    exact h.row (by omega) (by omega)
  · exact h.nil
theorem wfM.stra {b to : Int} (h : wfM μ) : wfM (uStra μ b to) := by
  unfold uStra
  split
  · rename_i hc
    have := lft_b h.1 h.2.1 hc.1.1 hc.1.2
    exact h.row (by omega) (by omega)
  · exact h.nil
theorem wfM.sto (h : wfM μ) : wfM (uSto μ) := by
  have := h.1.2.2.2.1
  unfold uSto
  split
  · exact h.nil
  · exact h.lay (by omega) (by omega)
theorem wfM.moo {k : Int} (h : wfM μ) : wfM (uMoo μ k) := by
  have := h.1.2.2.1
  unfold uMoo
  split
  · exact h.lay (by omega) (by omega)
  · exact h
theorem wfM.tri {b : Int} (h : wfM μ) : wfM (uTri μ b) := by
  have := h.1.2.2.2.1
  unfold uTri
  split
  · exact h.lay (by omega) (by omega)
  · exact h.nil
theorem P_coolest (h : PR G X y s) (a b : Int32) : ∃ v y' s', fy_B_coolest G y X a b = some (v, y') ∧ fm_coolest s a b = some (v, s') ∧ PR G X y' s' ∧ bnd y y' := by
  obtain ⟨μ, h, hm, hw⟩ := h
  obtain ⟨a, ⟨p0, q0⟩, rfl⟩ := of32 a
  obtain ⟨b, ⟨p1, q1⟩, rfl⟩ := of32 b
  obtain ⟨s', e2, f2⟩ := M_coolest hm hw p0 q0 p1 q1
  obtain ⟨y', e, f, g⟩ := X_coolest h hw p0 q0 p1 q1
  exact ⟨_, y', s', e, e2, ⟨_, f, f2, hw.cool⟩, g⟩
theorem P_straight (h : PR G X y s) (a b : Int32) : ∃ v y' s', fy_B_straight G y X a b = some (v, y') ∧ fm_straight s a b = some (v, s') ∧ PR G X y' s' ∧ bnd y y' := by
  obtain ⟨μ, h, hm, hw⟩ := h
  obtain ⟨a, ⟨p0, q0⟩, rfl⟩ := of32 a
  obtain ⟨b, ⟨p1, q1⟩, rfl⟩ := of32 b
  obtain ⟨s', e2, f2⟩ := M_straight hm hw p0 q0 p1 q1
  obtain ⟨y', e, f, g⟩ := X_straight h hw p0 q0 p1 q1
  exact ⟨_, y', s', e, e2, ⟨_, f, f2, hw.stra⟩, g⟩
theorem P_fits (h : PR G X y s) (a : Int32) : ∃ v y' s', fy_B_fits G y X a = some (v, y') ∧ fm_fits s a = some (v, s') ∧ PR G X y' s' ∧ bnd y y' := by
  obtain ⟨μ, h, hm, hw⟩ := h
  obtain ⟨a, ⟨p0, q0⟩, rfl⟩ := of32 a
  obtain ⟨s', e2, f2⟩ := M_fits hm hw p0 q0
  obtain ⟨y', e, f, g⟩ := X_fits h hw p0 q0
  exact ⟨_, y', s', e, e2, ⟨_, f, f2, hw⟩, g⟩
theorem P_sure (h : PR G X y s) (a b : Int32) : ∃ v y' s', fy_B_sure G y X a b = some (v, y') ∧ fm_sure s a b = some (v, s') ∧ PR G X y' s' ∧ bnd y y' := by
  obtain ⟨μ, h, hm, hw⟩ := h
  obtain ⟨a, ⟨p0, q0⟩, rfl⟩ := of32 a
  obtain ⟨b, ⟨p1, q1⟩, rfl⟩ := of32 b
  obtain ⟨s', e2, f2⟩ := M_sure hm hw p1 q1 p0 q0
  obtain ⟨y', e, f, g⟩ := X_sure h hw p1 q1 p0 q0
  exact ⟨_, y', s', e, e2, ⟨_, f, f2, hw⟩, g⟩
theorem P_ask (h : PR G X y s) (a b : Int32) : ∃ v y' s', fy_B_ask G y X a b = some (v, y') ∧ fm_ask s a b = some (v, s') ∧ PR G X y' s' ∧ bnd y y' := by
  obtain ⟨μ, h, hm, hw⟩ := h
  obtain ⟨a, ⟨p0, q0⟩, rfl⟩ := of32 a
  obtain ⟨b, ⟨p1, q1⟩, rfl⟩ := of32 b
  obtain ⟨s', e2, f2⟩ := M_ask hm hw p1 q1 p0 q0
  obtain ⟨y', e, f, g⟩ := X_ask h hw p1 q1 p0 q0
  exact ⟨_, y', s', e, e2, ⟨_, f, f2, hw⟩, g⟩
theorem P_stowing (h : PR G X y s) : ∃ v y' s', fy_B_stowing G y X = some (v, y') ∧ fm_stowing s = some (v, s') ∧ PR G X y' s' ∧ bnd y y' := by
  obtain ⟨μ, h, hm, hw⟩ := h
  obtain ⟨s', e2, f2⟩ := M_stowing hm hw 
  obtain ⟨y', e, f, g⟩ := X_stowing h hw 
  exact ⟨_, y', s', e, e2, ⟨_, f, f2, hw.sto⟩, g⟩
theorem P_mooring (h : PR G X y s) (a : Int32) : ∃ v y' s', fy_B_mooring G y X a = some (v, y') ∧ fm_mooring s a = some (v, s') ∧ PR G X y' s' ∧ bnd y y' := by
  obtain ⟨μ, h, hm, hw⟩ := h
  obtain ⟨a, ⟨p0, q0⟩, rfl⟩ := of32 a
  obtain ⟨⟨s', e2, f2⟩, hb⟩ := M_mooring hm hw p0 q0
  obtain ⟨y', e, f, g⟩ := X_mooring h hw hb p0 q0
  exact ⟨_, y', s', e, e2, ⟨_, f, f2, hw.moo⟩, g⟩
theorem P_trips (h : PR G X y s) (a : Int32) : ∃ v y' s', fy_B_trips G y X a = some (v, y') ∧ fm_trips s a = some (v, s') ∧ PR G X y' s' ∧ bnd y y' := by
  obtain ⟨μ, h, hm, hw⟩ := h
  obtain ⟨a, ⟨p0, q0⟩, rfl⟩ := of32 a
  obtain ⟨s', e2, f2⟩ := M_trips hm hw p0 q0
  obtain ⟨y', e, f, g⟩ := X_trips h hw p0 q0
  exact ⟨_, y', s', e, e2, ⟨_, f, f2, hw.tri⟩, g⟩
theorem P_guests (h : PR G X y s) (a b : Int32) : ∃ v y' s', fy_B_guests G y X a b = some (v, y') ∧ fm_guests s a b = some (v, s') ∧ PR G X y' s' ∧ bnd y y' := by
  obtain ⟨μ, h, hm, hw⟩ := h
  obtain ⟨a, ⟨p0, q0⟩, rfl⟩ := of32 a
  obtain ⟨b, ⟨p1, q1⟩, rfl⟩ := of32 b
  obtain ⟨m1, m2⟩ := M_guests hm hw p0 q0 p1 q1
  obtain ⟨x1, x2⟩ := X_guests h hw p0 q0 p1 q1
  by_cases c : canGue μ a b
  · obtain ⟨s', e2, f2, f3⟩ := m1 c
    obtain ⟨y', e, g1, g2, g3⟩ := x1 c
    by_cases c2 : (gsV μ a b).1 = 0
    · exact ⟨_, y', s', e, e2, ⟨_, g2 c2, f3 c2, hw.nil⟩, g3⟩
    · exact ⟨_, y', s', e, e2, ⟨_, g1 c2, f2 c2, hw.lay (by omega) (by omega)⟩, g3⟩
  · obtain ⟨s', e2, f2⟩ := m2 c
    obtain ⟨y', e, g1, g3⟩ := x2 c
    exact ⟨_, y', s', e, e2, ⟨_, g1, f2, hw.nil⟩, g3⟩
end J1

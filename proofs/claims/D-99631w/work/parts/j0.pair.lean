/-! LAYER 3: both sides at once (printed by tools/gen_j0.py) -/
set_option maxRecDepth 100000
/-- both hold the same -/
def PR (G : ai_G) (X : Nat) (y : yS) (s : mS) : Prop := ∃ μ, XR G y μ X ∧ MR μ s ∧ wfM μ
theorem of32 (v : Int32) : ∃ z : Int, (-2147483648 ≤ z ∧ z < 2147483648) ∧ v = iI z := ⟨v.toInt, ⟨v.minValue_le_toInt, by have := v.toInt_lt; omega⟩, (Int32.ofInt_toInt v).symm⟩
section J0
variable {G : ai_G} {X : Nat} {y : yS} {s : mS}
theorem P_fault (h : PR G X y s) (a : Int32) : ∃ v, fy_B_fault G y X a = some v ∧ fm_fault s a = some v ∧ PR G X y s := by
  obtain ⟨μ, ⟨O, r, bd, ld, K, sg, h⟩, hm, hw⟩ := h
  obtain ⟨a, ⟨p0, q0⟩, rfl⟩ := of32 a
  have e := c_fault (G := G) h.1 h.2.2.2.1 p0 q0
  have e2 := m_fault hm p0 q0
  exact ⟨_, e, e2, ⟨μ, XR.of h, hm, hw⟩⟩
theorem P_load (h : PR G X y s) (a b : Int32) : ∃ v, fy_B_load G y X a b = some v ∧ fm_load s a b = some v ∧ PR G X y s := by
  obtain ⟨μ, ⟨O, r, bd, ld, K, sg, h⟩, hm, hw⟩ := h
  obtain ⟨a, ⟨p0, q0⟩, rfl⟩ := of32 a
  obtain ⟨b, ⟨p1, q1⟩, rfl⟩ := of32 b
  have e := c_load h.xc hw.1 p0 q0 p1 q1
  have e2 := m_load hm.1 hw.1 hm.2.1 p0 q0 p1 q1
  exact ⟨_, e, e2, ⟨μ, XR.of h, hm, hw⟩⟩
theorem P_spot (h : PR G X y s) (a b c : Int32) : ∃ v, fy_B_spot G y X a b c = some v ∧ fm_spot s a b c = some v ∧ PR G X y s := by
  obtain ⟨μ, ⟨O, r, bd, ld, K, sg, h⟩, hm, hw⟩ := h
  obtain ⟨a, ⟨p0, q0⟩, rfl⟩ := of32 a
  obtain ⟨b, ⟨p1, q1⟩, rfl⟩ := of32 b
  obtain ⟨c, ⟨p2, q2⟩, rfl⟩ := of32 c
  have e := c_spot h.xc hw.1 p0 q0 p1 q1 p2 q2
  have e2 := m_spot hm.1 hw.1 p0 q0 p1 q1 p2 q2
  exact ⟨_, e, e2, ⟨μ, XR.of h, hm, hw⟩⟩
theorem P_pulled (h : PR G X y s) : ∃ v, fy_B_pulled G y X = some v ∧ fm_pulled s = some v ∧ PR G X y s := by
  obtain ⟨μ, ⟨O, r, bd, ld, K, sg, h⟩, hm, hw⟩ := h
  have e := c_pulled h.xc hw.1 hw.2.1 
  have e2 := m_pulled hm.1 hw.1 hm.2.1 hw.2.1 
  exact ⟨_, e, e2, ⟨μ, XR.of h, hm, hw⟩⟩
theorem P_hottest (h : PR G X y s) : ∃ v, fy_B_hottest G y X = some v ∧ fm_hottest s = some v ∧ PR G X y s := by
  obtain ⟨μ, ⟨O, r, bd, ld, K, sg, h⟩, hm, hw⟩ := h
  have e := c_hottest h.xc hw.1 hw.2.1 
  have e2 := m_hottest hm.1 hw.1 hm.2.1 hw.2.1 
  exact ⟨_, e, e2, ⟨μ, XR.of h, hm, hw⟩⟩
theorem P_lies (h : PR G X y s) (a : Int32) : ∃ v, fy_B_lies G y X a = some v ∧ fm_lies s a = some v ∧ PR G X y s := by
  obtain ⟨μ, ⟨O, r, bd, ld, K, sg, h⟩, hm, hw⟩ := h
  obtain ⟨a, ⟨p0, q0⟩, rfl⟩ := of32 a
  have e := c_lies (G := G) h.1 h.2.2.2.1 h.2.2.2.2.2.1 hw p0 q0
  have e2 := m_lies hm hw p0 q0
  exact ⟨_, e, e2, ⟨μ, XR.of h, hm, hw⟩⟩
theorem P_about (h : PR G X y s) (a : Int32) : ∃ v, fy_B_about G y X a = some v ∧ fm_about s a = some v ∧ PR G X y s := by
  obtain ⟨μ, ⟨O, r, bd, ld, K, sg, h⟩, hm, hw⟩ := h
  obtain ⟨a, ⟨p0, q0⟩, rfl⟩ := of32 a
  have e := c_about h p0 q0
  have e2 := m_about hm p0 q0
  exact ⟨_, e, e2, ⟨μ, XR.of h, hm, hw⟩⟩
theorem P_board (h : PR G X y s) (a b : Int32) : ∃ v s', fy_B_board G y X a b = some v ∧ fm_board s a b = some (v, s') ∧ PR G X y s' := by
  obtain ⟨μ, ⟨O, r, bd, ld, K, sg, h⟩, hm, hw⟩ := h
  obtain ⟨a, ⟨p0, q0⟩, rfl⟩ := of32 a
  obtain ⟨b, ⟨p1, q1⟩, rfl⟩ := of32 b
  have e := c_board h.xc hw.1 hw.2.1 p0 q0 p1 q1
  obtain ⟨s', e2, f2⟩ := m_board hm.1 hw.1 hm.2.1 hw.2.1 p0 q0 p1 q1
  exact ⟨_, s', e, e2, ⟨μ, XR.of h, hm.frm f2 rfl rfl, hw⟩⟩
theorem P_over (h : PR G X y s) : ∃ v s', fy_B_over G y X = some v ∧ fm_over s = some (v, s') ∧ PR G X y s' := by
  obtain ⟨μ, ⟨O, r, bd, ld, K, sg, h⟩, hm, hw⟩ := h
  have e := c_over h.xc hw.1 hw.2.1 
  obtain ⟨s', e2, f2⟩ := m_over hm.1 hw.1 hm.2.1 hw.2.1 
  exact ⟨_, s', e, e2, ⟨μ, XR.of h, hm.frm f2 rfl rfl, hw⟩⟩
theorem P_left (h : PR G X y s) : ∃ v s', fy_B_left G y X = some v ∧ fm_left s = some (v, s') ∧ PR G X y s' := by
  obtain ⟨μ, ⟨O, r, bd, ld, K, sg, h⟩, hm, hw⟩ := h
  have e := c_left h.xc hw.1 hw.2.1 
  obtain ⟨s', e2, f2⟩ := m_left hm.1 hw.1 hm.2.1 hw.2.1 
  exact ⟨_, s', e, e2, ⟨μ, XR.of h, hm.frm f2 rfl rfl, hw⟩⟩
theorem P_law (h : PR G X y s) (a : Int32) : ∃ v s', fy_B_law G y X a = some v ∧ fm_law s a = some (v, s') ∧ PR G X y s' := by
  obtain ⟨μ, ⟨O, r, bd, ld, K, sg, h⟩, hm, hw⟩ := h
  obtain ⟨a, ⟨p0, q0⟩, rfl⟩ := of32 a
  have e := c_law h.xc hw.1 hw.2.1 p0 q0
  obtain ⟨s', e2, f2⟩ := m_law hm.1 hw.1 hm.2.1 hw.2.1 p0 q0
  exact ⟨_, s', e, e2, ⟨μ, XR.of h, hm.frm f2 rfl rfl, hw⟩⟩
theorem P_widest (h : PR G X y s) (a b : Int32) : ∃ v s', fy_B_widest G y X a b = some v ∧ fm_widest s a b = some (v, s') ∧ PR G X y s' := by
  obtain ⟨μ, ⟨O, r, bd, ld, K, sg, h⟩, hm, hw⟩ := h
  obtain ⟨a, ⟨p0, q0⟩, rfl⟩ := of32 a
  obtain ⟨b, ⟨p1, q1⟩, rfl⟩ := of32 b
  have e := c_widest h.xc hw.1 hw.2.1 p0 q0 p1 q1
  obtain ⟨s', e2, f2⟩ := m_widest hm.1 hw.1 hm.2.1 hw.2.1 p0 q0 p1 q1
  exact ⟨_, s', e, e2, ⟨μ, XR.of h, hm.frm f2 rfl rfl, hw⟩⟩
theorem P_hotter (h : PR G X y s) (a : Int32) : ∃ v y' s', fy_B_hotter G y X a = some (v, y') ∧ fm_hotter s a = some (v, s') ∧ PR G X y' s' ∧ bnd y y' := by
  obtain ⟨μ, ⟨O, r, bd, ld, K, sg, h⟩, hm, hw⟩ := h
  obtain ⟨a, ⟨p0, q0⟩, rfl⟩ := of32 a
  obtain ⟨y', e, f⟩ := c_hotterB h.xc hw.1 hw.2.1 p0 q0
  obtain ⟨s', e2, f2⟩ := m_hotter hm.1 hw.1 hm.2.1 hw.2.1 p0 q0
  exact ⟨_, y', s', e, e2, ⟨μ, XR.of (h.fr f rfl), hm.frm f2 rfl rfl, hw⟩, f.room (by omega) (by omega)⟩
theorem P_landings (h : PR G X y s) (a : Int32) : ∃ v y' s', fy_B_landings G y X a = some (v, y') ∧ fm_landings s a = some (v, s') ∧ PR G X y' s' ∧ bnd y y' := by
  obtain ⟨μ, ⟨O, r, bd, ld, K, sg, h⟩, hm, hw⟩ := h
  obtain ⟨a, ⟨p0, q0⟩, rfl⟩ := of32 a
  obtain ⟨y', e, f⟩ := c_landings h.xc hw.1 hw.2.1 p0 q0
  obtain ⟨s', e2, f2⟩ := m_landings hm.1 hw.1 hm.2.1 hw.2.1 p0 q0
  exact ⟨_, y', s', e, e2, ⟨μ, XR.of (h.fr f rfl), hm.frm f2 rfl rfl, hw⟩, f.room (by omega) (by omega)⟩
theorem P_drift (h : PR G X y s) (a : Int32) : ∃ v y' s', fy_B_drift G y X a = some (v, y') ∧ fm_drift s a = some (v, s') ∧ PR G X y' s' ∧ bnd y y' := by
  obtain ⟨μ, ⟨O, r, bd, ld, K, sg, h⟩, hm, hw⟩ := h
  obtain ⟨a, ⟨p0, q0⟩, rfl⟩ := of32 a
  obtain ⟨y', e, f⟩ := c_drift h.xc hw.1 hw.2.1 p0 q0
  obtain ⟨s', e2, f2⟩ := m_drift hm.1 hw.1 hm.2.1 hw.2.1 p0 q0
  exact ⟨_, y', s', e, e2, ⟨μ, XR.of (h.fr f rfl), hm.frm f2 rfl rfl, hw⟩, f.room (by omega) (by omega)⟩
theorem P_rows (h : PR G X y s) (a : Int32) : ∃ v y' s', fy_B_rows G y X a = some (v, y') ∧ fm_rows s a = some (v, s') ∧ PR G X y' s' ∧ bnd y y' := by
  obtain ⟨μ, ⟨O, r, bd, ld, K, sg, h⟩, hm, hw⟩ := h
  obtain ⟨a, ⟨p0, q0⟩, rfl⟩ := of32 a
  obtain ⟨y', e, f⟩ := c_rows h.xc hw.1 hw.2.1 p0 q0
  obtain ⟨s', e2, f2⟩ := m_rows hm.1 hw.1 hm.2.1 hw.2.1 p0 q0
  exact ⟨_, y', s', e, e2, ⟨μ, XR.of (h.fr f rfl), hm.frm f2 rfl rfl, hw⟩, f.room (by omega) (by omega)⟩
theorem P_meet (h : PR G X y s) (a b : Int32) : ∃ v y' s', fy_B_meet G y X a b = some (v, y') ∧ fm_meet s a b = some (v, s') ∧ PR G X y' s' ∧ bnd y y' := by
  obtain ⟨μ, ⟨O, r, bd, ld, K, sg, h⟩, hm, hw⟩ := h
  obtain ⟨a, ⟨p0, q0⟩, rfl⟩ := of32 a
  obtain ⟨b, ⟨p1, q1⟩, rfl⟩ := of32 b
  obtain ⟨y', e, f⟩ := c_meet h.xc hw.1 hw.2.1 p0 q0 p1 q1
  obtain ⟨s', e2, f2⟩ := m_meet hm.1 hw.1 hm.2.1 hw.2.1 p0 q0 p1 q1
  exact ⟨_, y', s', e, e2, ⟨μ, XR.of (h.fr f rfl), hm.frm f2 rfl rfl, hw⟩, f.room (by omega) (by omega)⟩
theorem P_singe (h : PR G X y s) (a : Int32) : ∃ v y' s', fy_B_singe G y X a = some (v, y') ∧ fm_singe s a = some (v, s') ∧ PR G X y' s' ∧ bnd y y' := by
  obtain ⟨μ, ⟨O, r, bd, ld, K, sg, h⟩, hm, hw⟩ := h
  obtain ⟨a, ⟨p0, q0⟩, rfl⟩ := of32 a
  obtain ⟨y', e, f⟩ := c_singe h.xc hw.1 hw.2.1 p0 q0
  obtain ⟨s', e2, f2⟩ := m_singe hm.1 hw.1 hm.2.1 hw.2.1 p0 q0
  exact ⟨_, y', s', e, e2, ⟨μ, XR.of (h.fr f rfl), hm.frm f2 rfl rfl, hw⟩, f.room (by omega) (by omega)⟩
theorem P_odds (h : PR G X y s) (a b c : Int32) : ∃ v y' s', fy_B_odds G y X a b c = some (v, y') ∧ fm_odds s a b c = some (v, s') ∧ PR G X y' s' ∧ bnd y y' := by
  obtain ⟨μ, ⟨O, r, bd, ld, K, sg, h⟩, hm, hw⟩ := h
  obtain ⟨a, ⟨p0, q0⟩, rfl⟩ := of32 a
  obtain ⟨b, ⟨p1, q1⟩, rfl⟩ := of32 b
  obtain ⟨c, ⟨p2, q2⟩, rfl⟩ := of32 c
  obtain ⟨y', e, f⟩ := c_odds h.xc hw.1 hw.2.1 p0 q0 p1 q1 p2 q2
  obtain ⟨s', e2, f2⟩ := m_odds hm.1 hw.1 hm.2.1 hw.2.1 p0 q0 p1 q1 p2 q2
  exact ⟨_, y', s', e, e2, ⟨μ, XR.of (h.fr f rfl), hm.frm f2 rfl rfl, hw⟩, f.room (by omega) (by omega)⟩
end J0

/-! LAYER 3: both sides at once, what acts (printed by tools/gen_j2.py) -/
set_option maxRecDepth 100000
section J2
variable {G : ai_G} {X : Nat} {y : yS} {s : mS} {μ : Mu}
theorem wfS_heat {ρ : Rv} {x : Int → Int} {b v : Int} (hw : wfR ρ) (h : wfS ρ x) (h1 : 0 ≤ b) (h2 : b < rB ρ) (h3 : 0 ≤ v) (h4 : v ≤ 99) : wfS ρ (upI x (8 + b) v) := by
  have hb := hw.2.2.1
  obtain ⟨g1, g2, g3⟩ := h
  refine ⟨fun c c1 c2 => ?_, fun l l1 l2 => ?_, ?_⟩
  · have := g1 c c1 c2
    unfold upI
    rw [if_neg (by omega), if_neg (by omega), if_neg (show ¬ 12 + c = 8 + b by omega)]
    refine ⟨this.1, this.2.1, ?_, this.2.2.2⟩
    by_cases e : 8 + c = 8 + b
    · rw [if_pos e]; omega
    · rw [if_neg e]; exact this.2.2.1
  · unfold upI
    rw [if_neg (by omega)]
    exact g2 l l1 l2
  · unfold upI
    rw [if_neg (by omega)]
    exact g3
theorem of01 {c : Int32} (h : c = 0 ∨ c = 1) : ∃ z : Int, (z = 0 ∨ z = 1) ∧ c = iI z := by
  rcases h with h | h
  · exact ⟨0, Or.inl rfl, h⟩
  · exact ⟨1, Or.inr rfl, h⟩
theorem bankI_b (v : Int) : -2 ≤ bankI v ∧ bankI v < 0 := by
  unfold bankI
  split <;> omega
theorem clampI_b (v : Int) : 0 ≤ clampI v 99 ∧ clampI v 99 ≤ 99 := by
  unfold clampI
  split
  · split <;> omega
  · omega
theorem wfM.set76 {v : Int} (h : wfM μ) (h1 : 0 ≤ v) (h2 : v ≤ 100000) : wfM (uSet μ 76 v) := by
  obtain ⟨a1, a2, a3, a4, a5, a6, a7, a8, a9, a10, a11, a12⟩ := h
  exact ⟨a1, a2, a3, a4, a5, a6, a7, a8, ⟨h1, h2⟩, a10, a11, a12⟩
theorem wfM.set1 {v : Int} (h : wfM μ) (h1 : 0 ≤ v) (h2 : v ≤ 1600) : wfM (uSet μ 1 v) := by
  obtain ⟨a1, a2, a3, a4, a5, a6, a7, a8, a9, a10, a11, a12⟩ := h
  exact ⟨a1, a2, ⟨h1, h2⟩, a4, a5, a6, a7, a8, a9, a10, a11, a12⟩
theorem wfM.img {k : Int} (h : wfM μ) : wfM (uImg μ k) := by
  obtain ⟨a1, a2, a3, a4, a5, a6, a7, a8, a9, a10, a11, a12⟩ := h
  refine ⟨a1, a2, a3, a4, a5, a6, a7, a8, a9, a10, fun j => ?_, fun j j1 j2 j3 => ?_⟩
  · show upI (uA μ 43) k 1 j = 0 ∨ upI (uA μ 43) k 1 j = 1
    unfold upI
    split
    · exact Or.inr rfl
    · exact a11 j
  · show wfS (uR μ) (if j = k then uX μ else uB μ j)
    replace j3 : upI (uA μ 43) k 1 j = 1 := j3
    unfold upI at j3
    by_cases c : j = k
    · rw [if_pos c]; exact a2
    · rw [if_neg c] at j3 ⊢
      exact a12 j j1 j2 j3
theorem wfM.bck {k : Int} (h : wfM μ) (h1 : 0 ≤ k ∧ k < 3) (h2 : uA μ 43 k = 1) : wfM (uBack μ k) := by
  obtain ⟨a1, a2, a3, a4, a5, a6, a7, a8, a9, a10, a11, a12⟩ := h
  refine ⟨a1, a12 k h1.1 h1.2 h2, a3, a4, (by decide : (0 : Int) ≤ 0 ∧ (0 : Int) ≤ 0 ∧ (0 : Int) + 0 ≤ 40), fun j j1 j2 => ?_, a7, a8, a9, a10, a11, a12⟩
  replace j2 : j < 0 + 0 := j2
  omega
theorem wfM.unt {i : Int} (h : wfM μ) : wfM (uUntell μ i) := by
  obtain ⟨a1, a2, a3, a4, a5, a6, a7, a8, a9, a10, a11, a12⟩ := h
  refine ⟨a1, a2, a3, a4, a5, a6, a7, a8, a9, fun j j1 j2 => ?_, a11, a12⟩
  obtain ⟨b1, b2, b3, b4, b5, b6⟩ := a10 j j1 j2
  refine ⟨b1, b2, b3, b4, ?_, b6⟩
  show -1 ≤ upI (uA μ 38) i (uS μ 76) j ∧ upI (uA μ 38) i (uS μ 76) j ≤ 100000
  unfold upI
  split
  · omega
  · exact b5
theorem byte_up {f : Int → Int} {t v : Int} (h : ∀ z, 0 ≤ f z ∧ f z ≤ 255) (hv : 0 ≤ v ∧ v ≤ 255) : ∀ z, 0 ≤ upI f t v z ∧ upI f t v z ≤ 255 := by
  intro z
  unfold upI
  split
  · exact hv
  · exact h z
theorem byte_tap {f : Int → Int} {t : Int} (h : ∀ z, 0 ≤ f z ∧ f z ≤ 255) (v : Int32) : ∀ z, 0 ≤ tap4 f t v z ∧ tap4 f t v z ≤ 255 := byte_up (byte_up (byte_up (byte_up h (byt_b v 24)) (byt_b v 16)) (byt_b v 8)) (byt_b v 0)
theorem wfM.feed (h : wfM μ) (h1 : uS μ 1 + 20 ≤ 1600) (a b c d e : Int32) : wfM (uFeed μ a b c d e) := by
  obtain ⟨a1, a2, a3, a4, a5, a6, a7, a8, a9, a10, a11, a12⟩ := h
  refine ⟨a1, a2, ?_, ?_, a5, a6, a7, a8, a9, a10, a11, a12⟩
  · show 0 ≤ uS μ 1 + 20 ∧ uS μ 1 + 20 ≤ 1600
    omega
  · exact byte_tap (byte_tap (byte_tap (byte_tap (byte_tap a4 a) b) c) d) e
theorem P_stroke (hG : okG G) (h : PR G X y s) (a b c : Int32) (hc : c = 0 ∨ c = 1) : ∃ v y' s', fy_B_stroke G y X a b c = some (v, y') ∧ fm_stroke s a b c = some (v, s') ∧ PR G X y' s' ∧ bnd y y' := by
  obtain ⟨μ, h, hm, hw⟩ := h
  obtain ⟨a, ⟨p0, q0⟩, rfl⟩ := of32 a
  obtain ⟨b, ⟨p1, q1⟩, rfl⟩ := of32 b
  obtain ⟨c, hc', rfl⟩ := of01 hc
  obtain ⟨m1, m2⟩ := m_stroke hm hw p0 q0 p1 q1 hc'
  obtain ⟨x1, x2⟩ := X_stroke hG h hw p0 q0 p1 q1 hc'
  by_cases ca : canStr μ a b c
  · obtain ⟨s', e2, f2⟩ := m2 ca
    obtain ⟨y', e, g1, g2⟩ := x2 ca
    exact ⟨_, y', _, e, e2, ⟨_, g1, f2, wfM.stroke hw ca⟩, g2⟩
  · exact ⟨_, y, s, x1 ca, m1 ca, ⟨_, h, hm, hw⟩, bnd.refl⟩
theorem P_stow (hG : okG G) (h : PR G X y s) (a b : Int32) : ∃ v y' s', fy_B_stow G y X a b = some (v, y') ∧ fm_stow s a b = some (v, s') ∧ PR G X y' s' ∧ bnd y y' := by
  obtain ⟨μ, h, hm, hw⟩ := h
  obtain ⟨a, ⟨p0, q0⟩, rfl⟩ := of32 a
  obtain ⟨b, ⟨p1, q1⟩, rfl⟩ := of32 b
  obtain ⟨m1, m2⟩ := m_stow hm hw p0 q0 p1 q1
  obtain ⟨x1, x2⟩ := X_stow hG h hw p0 q0 p1 q1
  by_cases ca : canStow μ a b
  · obtain ⟨s', e2, f2⟩ := m2 ca
    obtain ⟨y', e, g1, g2⟩ := x2 ca
    exact ⟨_, y', _, e, e2, ⟨_, g1, f2, wfM.now (uAct_wf hw) (wfS_load hw.1 hw.2.1 ca.1.1 ca.1.2 (by have := ca.2.1; omega) ca.2.1.2)⟩, g2⟩
  · obtain ⟨s', e2, f2⟩ := m1 ca
    exact ⟨_, y, s', x1 ca, e2, ⟨_, h, f2, hw⟩, bnd.refl⟩
theorem P_take (hG : okG G) (h : PR G X y s) (a : Int32) : ∃ v y' s', fy_B_take G y X a = some (v, y') ∧ fm_take s a = some (v, s') ∧ PR G X y' s' ∧ bnd y y' := by
  obtain ⟨μ, h, hm, hw⟩ := h
  obtain ⟨a, ⟨p0, q0⟩, rfl⟩ := of32 a
  obtain ⟨m1, m2⟩ := m_take hm hw p0 q0
  obtain ⟨x1, x2⟩ := X_take hG h hw p0 q0
  by_cases ca : canTake μ a
  · obtain ⟨s', e2, f2⟩ := m2 ca
    obtain ⟨y', e, g1, g2⟩ := x2 ca
    exact ⟨_, y', _, e, e2, ⟨_, g1, f2, wfM.now (uAct_wf hw) (wfS_load hw.1 hw.2.1 ca.1.1 ca.1.2 (bankI_b _).1 (Int.lt_of_lt_of_le (bankI_b _).2 hw.1.2.2.1.1))⟩, g2⟩
  · exact ⟨_, y, s, x1 ca, m1 ca, ⟨_, h, hm, hw⟩, bnd.refl⟩
theorem P_cool (hG : okG G) (h : PR G X y s) (a b : Int32) : ∃ v y' s', fy_B_cool G y X a b = some (v, y') ∧ fm_cool s a b = some (v, s') ∧ PR G X y' s' ∧ bnd y y' := by
  obtain ⟨μ, h, hm, hw⟩ := h
  obtain ⟨a, ⟨p0, q0⟩, rfl⟩ := of32 a
  obtain ⟨b, ⟨p1, q1⟩, rfl⟩ := of32 b
  obtain ⟨m1, m2⟩ := m_cool hm hw p0 q0 p1 q1
  obtain ⟨x1, x2⟩ := X_cool hG h hw p0 q0 p1 q1
  by_cases ca : canCool μ a b
  · obtain ⟨s', e2, f2⟩ := m2 ca
    obtain ⟨y', e, g1, g2⟩ := x2 ca
    exact ⟨_, y', _, e, e2, ⟨_, g1, f2, wfM.now (uAct_wf hw) (wfS_heat hw.1 hw.2.1 ca.1.1 ca.1.2 (clampI_b _).1 (clampI_b _).2)⟩, g2⟩
  · exact ⟨_, y, s, x1 ca, m1 ca, ⟨_, h, hm, hw⟩, bnd.refl⟩
theorem P_image (h : PR G X y s) (a : Int32) : ∃ v y' s', fy_B_image G y X a = some (v, y') ∧ fm_image s a = some (v, s') ∧ PR G X y' s' ∧ bnd y y' := by
  obtain ⟨μ, h, hm, hw⟩ := h
  obtain ⟨a, ⟨p0, q0⟩, rfl⟩ := of32 a
  obtain ⟨m1, m2⟩ := m_image hm hw p0 q0
  obtain ⟨x1, x2⟩ := X_image h hw p0 q0
  by_cases ca : 0 ≤ a ∧ a < 3
  · obtain ⟨s', e2, f2⟩ := m2 ca
    obtain ⟨y', e, g1, g2⟩ := x2 ca
    exact ⟨_, y', _, e, e2, ⟨_, g1, f2, hw.img⟩, g2⟩
  · exact ⟨_, y, s, x1 ca, m1 ca, ⟨_, h, hm, hw⟩, bnd.refl⟩
theorem P_back (h : PR G X y s) (a : Int32) : ∃ v y' s', fy_B_back G y X a = some (v, y') ∧ fm_back s a = some (v, s') ∧ PR G X y' s' ∧ bnd y y' := by
  obtain ⟨μ, h, hm, hw⟩ := h
  obtain ⟨a, ⟨p0, q0⟩, rfl⟩ := of32 a
  obtain ⟨m1, m2⟩ := m_back hm hw p0 q0
  obtain ⟨x1, x2⟩ := X_back h hw p0 q0
  by_cases ca : (0 ≤ a ∧ a < 3) ∧ uA μ 43 a = 1
  · obtain ⟨s', e2, f2⟩ := m2 ca
    obtain ⟨y', e, g1, g2⟩ := x2 ca
    exact ⟨_, y', _, e, e2, ⟨_, g1, f2, hw.bck ca.1 ca.2⟩, g2⟩
  · exact ⟨_, y, s, x1 ca, m1 ca, ⟨_, h, hm, hw⟩, bnd.refl⟩
theorem P_later (h : PR G X y s) (a : Int32) : ∃ v y' s', fy_B_later G y X a = some (v, y') ∧ fm_later s a = some (v, s') ∧ PR G X y' s' ∧ bnd y y' := by
  obtain ⟨μ, h, hm, hw⟩ := h
  obtain ⟨a, ⟨p0, q0⟩, rfl⟩ := of32 a
  obtain ⟨m1, m2⟩ := m_later hm hw p0 q0
  obtain ⟨x1, x2⟩ := X_later h hw p0 q0
  by_cases ca : 0 ≤ a ∧ a ≤ 1000 ∧ uS μ 76 + a ≤ 100000
  · obtain ⟨e2, f2⟩ := m2 ca
    obtain ⟨y', e, g1, g2⟩ := x2 ca
    exact ⟨_, y', _, e, e2, ⟨_, g1, f2, hw.set76 (by have := hw.2.2.2.2.2.2.2.2.1; omega) ca.2.2⟩, g2⟩
  · exact ⟨_, y, s, x1 ca, m1 ca, ⟨_, h, hm, hw⟩, bnd.refl⟩
theorem P_end (h : PR G X y s) (a : Int32) : ∃ v y' s', fy_B_end G y X a = some (v, y') ∧ fm_end s a = some (v, s') ∧ PR G X y' s' ∧ bnd y y' := by
  obtain ⟨μ, h, hm, hw⟩ := h
  obtain ⟨a, ⟨p0, q0⟩, rfl⟩ := of32 a
  obtain ⟨m1, m2⟩ := m_end hm hw p0 q0
  obtain ⟨x1, x2⟩ := X_end h hw p0 q0
  by_cases ca : 0 ≤ a ∧ a ≤ uS μ 1
  · obtain ⟨e2, f2⟩ := m2 ca
    obtain ⟨y', e, g1, g2⟩ := x2 ca
    exact ⟨_, y', _, e, e2, ⟨_, g1, f2, hw.set1 ca.1 (by have := hw.2.2.1; omega)⟩, g2⟩
  · exact ⟨_, y, s, x1 ca, m1 ca, ⟨_, h, hm, hw⟩, bnd.refl⟩
theorem P_passed (hG : okG G) (h : PR G X y s) (a b c : Int32) (hc : c = 0 ∨ c = 1) : ∃ v y' s', fy_B_passed G y X a b c = some (v, y') ∧ fm_passed s a b c = some (v, s') ∧ PR G X y' s' ∧ bnd y y' := by
  obtain ⟨μ, h, hm, hw⟩ := h
  obtain ⟨a, ⟨p0, q0⟩, rfl⟩ := of32 a
  obtain ⟨b, ⟨p1, q1⟩, rfl⟩ := of32 b
  obtain ⟨c, hc', rfl⟩ := of01 hc
  obtain ⟨m1, m2⟩ := m_passed hm hw p0 q0 p1 q1 hc'
  obtain ⟨x1, x2⟩ := X_passed hG h hw p0 q0 p1 q1 hc'
  by_cases ca : (0 ≤ b ∧ b ≤ 7) ∧ canSee μ a
  · obtain ⟨s', e2, f2⟩ := m2 ca
    obtain ⟨y', e, g1, g2⟩ := x2 ca
    exact ⟨_, y', _, e, e2, ⟨_, g1, f2, hw.see ca.2 (Or.inl rfl) ⟨ca.1.1, by omega⟩ hc'⟩, g2⟩
  · exact ⟨_, y, s, x1 ca, m1 ca, ⟨_, h, hm, hw⟩, bnd.refl⟩
theorem P_felt (hG : okG G) (h : PR G X y s) (a b c : Int32) (hc : c = 0 ∨ c = 1) : ∃ v y' s', fy_B_felt G y X a b c = some (v, y') ∧ fm_felt s a b c = some (v, s') ∧ PR G X y' s' ∧ bnd y y' := by
  obtain ⟨μ, h, hm, hw⟩ := h
  obtain ⟨a, ⟨p0, q0⟩, rfl⟩ := of32 a
  obtain ⟨b, ⟨p1, q1⟩, rfl⟩ := of32 b
  obtain ⟨c, hc', rfl⟩ := of01 hc
  obtain ⟨m1, m2⟩ := m_felt hm hw p0 q0 p1 q1 hc'
  obtain ⟨x1, x2⟩ := X_felt hG h hw p0 q0 p1 q1 hc'
  by_cases ca : (0 ≤ b ∧ b ≤ 99) ∧ canSee μ a
  · obtain ⟨s', e2, f2⟩ := m2 ca
    obtain ⟨y', e, g1, g2⟩ := x2 ca
    exact ⟨_, y', _, e, e2, ⟨_, g1, f2, hw.see ca.2 (Or.inr rfl) ca.1 hc'⟩, g2⟩
  · exact ⟨_, y, s, x1 ca, m1 ca, ⟨_, h, hm, hw⟩, bnd.refl⟩
theorem P_untell (h : PR G X y s) (a : Int32) : ∃ v y' s', fy_B_untell G y X a = some (v, y') ∧ fm_untell s a = some (v, s') ∧ PR G X y' s' ∧ bnd y y' := by
  obtain ⟨μ, h, hm, hw⟩ := h
  obtain ⟨a, ⟨p0, q0⟩, rfl⟩ := of32 a
  obtain ⟨m1, m2⟩ := m_untell hm hw p0 q0
  obtain ⟨x1, x2⟩ := X_untell h hw p0 q0
  by_cases ca : (0 ≤ a ∧ a < uS μ 75) ∧ uA μ 38 a < 0
  · obtain ⟨s', e2, f2⟩ := m2 ca
    obtain ⟨y', e, g1, g2⟩ := x2 ca
    exact ⟨_, y', _, e, e2, ⟨_, g1, f2, hw.unt⟩, g2⟩
  · exact ⟨_, y, s, x1 ca, m1 ca, ⟨_, h, hm, hw⟩, bnd.refl⟩
theorem P_feed (h : PR G X y s) (a b c d e : Int32) : ∃ v y' s', fy_B_feed G y X a b c d e = some (v, y') ∧ fm_feed s a b c d e = some (v, s') ∧ PR G X y' s' ∧ bnd y y' := by
  obtain ⟨μ, h, hm, hw⟩ := h
  obtain ⟨m1, m2⟩ := m_feed hm hw a b c d e
  obtain ⟨x1, x2⟩ := X_feed h hw a b c d e
  by_cases ca : uS μ 1 + 20 ≤ 1600
  · obtain ⟨s', e2, f2⟩ := m2 ca
    obtain ⟨y', e, g1, g2⟩ := x2 ca
    exact ⟨_, y', _, e, e2, ⟨_, g1, f2, hw.feed ca _ _ _ _ _⟩, g2⟩
  · exact ⟨_, y, s, x1 ca, m1 ca, ⟨_, h, hm, hw⟩, bnd.refl⟩
theorem P_undo (hG : okG G) (h : PR G X y s) : ∃ v y' s', fy_B_undo G y X = some (v, y') ∧ fm_undo s = some (v, s') ∧ PR G X y' s' ∧ bnd y y' := by
  obtain ⟨μ, h, hm, hw⟩ := h
  obtain ⟨s', e2, f2⟩ := m_undo hm hw
  obtain ⟨y', e, g1, g2⟩ := X_undo hG h hw
  have h5 := hw.2.2.2.2.1
  refine ⟨_, y', s', e, e2, ⟨_, g1, f2, ?_⟩, g2⟩
  by_cases c : uS μ 57 = 0
  · rw [if_pos c]; exact hw
  · rw [if_neg c]; exact uEx_wf hw (by omega) (by omega) (by omega) (by omega) (by omega)
theorem P_redo (hG : okG G) (h : PR G X y s) : ∃ v y' s', fy_B_redo G y X = some (v, y') ∧ fm_redo s = some (v, s') ∧ PR G X y' s' ∧ bnd y y' := by
  obtain ⟨μ, h, hm, hw⟩ := h
  obtain ⟨s', e2, f2⟩ := m_redo hm hw
  obtain ⟨y', e, g1, g2⟩ := X_redo hG h hw
  have h5 := hw.2.2.2.2.1
  refine ⟨_, y', s', e, e2, ⟨_, g1, f2, ?_⟩, g2⟩
  by_cases c : uS μ 58 = 0
  · rw [if_pos c]; exact hw
  · rw [if_neg c]; exact uEx_wf hw (by omega) (by omega) (by omega) (by omega) (by omega)
end J2

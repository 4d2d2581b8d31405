/-! LAYER 3: the model's passed, felt, untell -/
set_option maxRecDepth 100000
section C0
variable {μ : Mu} {s : mS}
theorem m_passed (h : MR μ s) (hw : wfM μ) {k c is : Int} (h1 : -2147483648 ≤ k) (h2 : k < 2147483648) (h4 : -2147483648 ≤ c) (h5 : c < 2147483648) (h3 : is = 0 ∨ is = 1) : (¬ ((0 ≤ c ∧ c ≤ 7) ∧ canSee μ k) → fm_passed s (iI k) (iI c) (iI is) = some (iI (-1), s)) ∧ ((0 ≤ c ∧ c ≤ 7) ∧ canSee μ k → ∃ s', fm_passed s (iI k) (iI c) (iI is) = some (iI (uS μ 75), s') ∧ MR (uSee μ 0 k c is) s') := by
  unfold fm_passed
  simp (disch := omega) only [iI_lit, iI_add, iI_sub, iI_mul, iI_neg, Option.bind_some, if_true, if_false, Int.reduceEq, Int.reduceLE, Int.reduceLT, Int.reduceAdd, Int.reduceSub, Int.reduceMul, Int.reduceNeg, Nat.reduceEqDiff, m_isIn]
  obtain ⟨e1, e2⟩ := m_see (sort := 0) (much := c) h hw h1 h2 h3
  by_cases q : 0 ≤ c ∧ c ≤ 7
  · simp only [if_pos q, iI_lit, iI_add, iI_sub, iI_mul, iI_neg, Option.bind_some, if_true, if_false, Int.reduceEq, Int.reduceLE, Int.reduceLT, Int.reduceAdd, Int.reduceSub, Int.reduceMul, Int.reduceNeg, Nat.reduceEqDiff, show ¬ iI 1 = iI 0 by decide]
    refine ⟨fun z => ?_, fun z => ?_⟩
    · rw [e1 (fun y => z ⟨q, y⟩)]
      rfl
    · obtain ⟨s', e, m⟩ := e2 z.2
      exact ⟨s', by rw [e]; rfl, m⟩
  · simp only [if_neg q, iI_lit, iI_add, iI_sub, iI_mul, iI_neg, Option.bind_some, if_true, if_false, Int.reduceEq, Int.reduceLE, Int.reduceLT, Int.reduceAdd, Int.reduceSub, Int.reduceMul, Int.reduceNeg, Nat.reduceEqDiff]
    exact ⟨fun _ => trivial, fun z => absurd z.1 q⟩
theorem m_felt (h : MR μ s) (hw : wfM μ) {k c is : Int} (h1 : -2147483648 ≤ k) (h2 : k < 2147483648) (h4 : -2147483648 ≤ c) (h5 : c < 2147483648) (h3 : is = 0 ∨ is = 1) : (¬ ((0 ≤ c ∧ c ≤ 99) ∧ canSee μ k) → fm_felt s (iI k) (iI c) (iI is) = some (iI (-1), s)) ∧ ((0 ≤ c ∧ c ≤ 99) ∧ canSee μ k → ∃ s', fm_felt s (iI k) (iI c) (iI is) = some (iI (uS μ 75), s') ∧ MR (uSee μ 1 k c is) s') := by
  unfold fm_felt
  simp (disch := omega) only [iI_lit, iI_add, iI_sub, iI_mul, iI_neg, Option.bind_some, if_true, if_false, Int.reduceEq, Int.reduceLE, Int.reduceLT, Int.reduceAdd, Int.reduceSub, Int.reduceMul, Int.reduceNeg, Nat.reduceEqDiff, m_isIn]
  obtain ⟨e1, e2⟩ := m_see (sort := 1) (much := c) h hw h1 h2 h3
  by_cases q : 0 ≤ c ∧ c ≤ 99
  · simp only [if_pos q, iI_lit, iI_add, iI_sub, iI_mul, iI_neg, Option.bind_some, if_true, if_false, Int.reduceEq, Int.reduceLE, Int.reduceLT, Int.reduceAdd, Int.reduceSub, Int.reduceMul, Int.reduceNeg, Nat.reduceEqDiff, show ¬ iI 1 = iI 0 by decide]
    refine ⟨fun z => ?_, fun z => ?_⟩
    · rw [e1 (fun y => z ⟨q, y⟩)]
      rfl
    · obtain ⟨s', e, m⟩ := e2 z.2
      exact ⟨s', by rw [e]; rfl, m⟩
  · simp only [if_neg q, iI_lit, iI_add, iI_sub, iI_mul, iI_neg, Option.bind_some, if_true, if_false, Int.reduceEq, Int.reduceLE, Int.reduceLT, Int.reduceAdd, Int.reduceSub, Int.reduceMul, Int.reduceNeg, Nat.reduceEqDiff]
    exact ⟨fun _ => trivial, fun z => absurd z.1 q⟩
theorem wfM.see {sort k c is : Int} (hw : wfM μ) (hc : canSee μ k) (h1 : sort = 0 ∨ sort = 1) (h2 : 0 ≤ c ∧ c ≤ 99) (h3 : is = 0 ∨ is = 1) : wfM (uSee μ sort k c is) := by
  obtain ⟨a1, a2, a3, a4, a5, a6, a7, a8, a9, a10, a11, a12⟩ := hw
  obtain ⟨c1, c2, c3⟩ := hc
  refine ⟨a1, a2, a3, a4, a5, a6, a7, ?_, a9, fun i i1 i2 => ?_, a11, a12⟩
  · show 0 ≤ uS μ 75 + 1 ∧ uS μ 75 + 1 ≤ 30
    omega
  · have i2 : i < uS μ 75 + 1 := i2
    show (upI (uA μ 34) (uS μ 75) sort i = 0 ∨ upI (uA μ 34) (uS μ 75) sort i = 1) ∧ (1 ≤ upI (uA μ 35) (uS μ 75) k i ∧ upI (uA μ 35) (uS μ 75) k i ≤ rR (uR μ)) ∧ (0 ≤ upI (uA μ 36) (uS μ 75) c i ∧ upI (uA μ 36) (uS μ 75) c i ≤ 99) ∧ (0 ≤ upI (uA μ 37) (uS μ 75) (uS μ 76) i ∧ upI (uA μ 37) (uS μ 75) (uS μ 76) i ≤ 100000) ∧ (-1 ≤ upI (uA μ 38) (uS μ 75) (-1) i ∧ upI (uA μ 38) (uS μ 75) (-1) i ≤ 100000) ∧ (upI (uA μ 39) (uS μ 75) is i = 0 ∨ upI (uA μ 39) (uS μ 75) is i = 1)
    unfold upI
    by_cases hi : i = uS μ 75
    · simp only [if_pos hi]
      exact ⟨h1, c2, h2, a9, by omega, h3⟩
    · simp only [if_neg hi]
      exact a10 i i1 (by omega)
def uUntell (μ : Mu) (i : Int) : Mu := (uR μ, uX μ, uS μ, uW μ, uB μ, upR (uA μ) 38 (upI (uA μ 38) i (uS μ 76)))
theorem m_untell (h : MR μ s) (hw : wfM μ) {i : Int} (h1 : -2147483648 ≤ i) (h2 : i < 2147483648) : (¬ ((0 ≤ i ∧ i < uS μ 75) ∧ uA μ 38 i < 0) → fm_untell s (iI i) = some (iI 0, s)) ∧ ((0 ≤ i ∧ i < uS μ 75) ∧ uA μ 38 i < 0 → ∃ s', fm_untell s (iI i) = some (iI 1, s') ∧ MR (uUntell μ i) s') := by
  have hs := hw.2.2.2.2.2.2.2.1
  have a7 : s.1 75 = iI (uS μ 75) := h.2.2.1.2.2.2.2.2.2.1
  have a8 : s.1 76 = iI (uS μ 76) := h.2.2.1.2.2.2.2.2.2.2
  have h38 := h.2.2.2.2.2.1 38 (by decide)
  unfold fm_untell
  simp (disch := omega) only [iI_lit, iI_add, iI_sub, iI_mul, iI_neg, Option.bind_some, if_true, if_false, Int.reduceEq, Int.reduceLE, Int.reduceLT, Int.reduceAdd, Int.reduceSub, Int.reduceMul, Int.reduceNeg, Nat.reduceEqDiff, a7, m_isIn]
  by_cases q : 0 ≤ i ∧ i < uS μ 75
  · have e := h38 i q.1 q.2
    have hr := (hw.2.2.2.2.2.2.2.2.2.1 i q.1 q.2).2.2.2.2.1
    simp (disch := omega) only [if_pos (show 0 ≤ i ∧ i ≤ uS μ 75 - 1 by omega), iI_lit, iI_add, iI_sub, iI_mul, iI_neg, Option.bind_some, if_true, if_false, Int.reduceEq, Int.reduceLE, Int.reduceLT, Int.reduceAdd, Int.reduceSub, Int.reduceMul, Int.reduceNeg, Nat.reduceEqDiff, iI_le, iI_lt, iI_eq, show ¬ iI 1 = iI 0 by decide, ld_i, sto_w, e, a8]
    by_cases q2 : uA μ 38 i < 0
    · simp only [if_pos q2]
      refine ⟨fun z => absurd ⟨q, q2⟩ z, fun _ => ?_⟩
      have f : fr [] [38] s (aw s 38 i.toNat (iI (uS μ 76))) := fr.refl.aw rfl
      obtain ⟨hR, ha, b, h4, h5, h6, h7, h8, h9⟩ := h
      refine ⟨_, rfl, hR.fr f rfl rfl, f.ar ha rfl, b, f.ar h4 rfl, f.ar h5 rfl, ?_, f.ar h7 rfl, h8, h9⟩
      intro j hj
      by_cases hj8 : j = 38
      · subst hj8
        exact ar_aw h38 q.1
      · have h3 := h6 j hj
        show ar _ j (uS μ 75) (if j = 38 then upI (uA μ 38) i (uS μ 76) else uA μ j)
        rw [if_neg hj8]
        exact ar_awn h3 (by cases hq : Nat.beq j 38 with | false => rfl | true => exact absurd (Nat.eq_of_beq_eq_true hq) hj8)
    · simp only [if_neg q2]
      exact ⟨fun _ => trivial, fun z => absurd z.2 q2⟩
  · simp only [if_neg (show ¬ (0 ≤ i ∧ i ≤ uS μ 75 - 1) by omega), iI_lit, iI_add, iI_sub, iI_mul, iI_neg, Option.bind_some, if_true, if_false, Int.reduceEq, Int.reduceLE, Int.reduceLT, Int.reduceAdd, Int.reduceSub, Int.reduceMul, Int.reduceNeg, Nat.reduceEqDiff]
    exact ⟨fun _ => trivial, fun z => absurd z.1 q⟩
end C0

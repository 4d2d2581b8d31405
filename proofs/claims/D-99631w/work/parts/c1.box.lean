/-! LAYER 3: the model's boxes -/
set_option maxRecDepth 100000
section C1
variable {μ : Mu} {s : mS}
theorem m_isBox {k : Int} (h1 : -2147483648 ≤ k) (h2 : k < 2147483648) : fm_isBox (iI k) = some (iI (if 0 ≤ k ∧ k < 3 then 1 else 0)) := by
  simp (disch := omega) only [fm_isBox, iI_lit, iI_add, iI_sub, iI_mul, iI_neg, Option.bind_some, if_true, if_false, Int.reduceEq, Int.reduceLE, Int.reduceLT, Int.reduceAdd, Int.reduceSub, Int.reduceMul, Int.reduceNeg, Nat.reduceEqDiff, iI_le, iI_lt, iI_eq]
  by_cases q1 : k < 0
  · rw [if_pos q1, if_neg (by omega)]
  · rw [if_neg q1]
    by_cases q2 : 3 ≤ k
    · rw [if_pos q2, if_neg (by omega)]
    · rw [if_neg q2, if_pos (by omega)]
def uImg (μ : Mu) (k : Int) : Mu := (uR μ, uX μ, uS μ, uW μ, (fun j => if j = k then uX μ else uB μ j), upR (uA μ) 43 (upI (uA μ 43) k 1))
def uBack (μ : Mu) (k : Int) : Mu := (uR μ, uB μ k, upN (upN (uS μ) 57 0) 58 0, uW μ, uB μ, uA μ)
theorem m_image (h : MR μ s) (hw : wfM μ) {k : Int} (h1 : -2147483648 ≤ k) (h2 : k < 2147483648) : (¬ (0 ≤ k ∧ k < 3) → fm_image s (iI k) = some (iI (-1), s)) ∧ ((0 ≤ k ∧ k < 3) → ∃ s', fm_image s (iI k) = some (iI (membN (atS (uR μ) (uX μ) (-2)) 8), s') ∧ MR (uImg μ k) s') := by
  unfold fm_image
  rw [m_isBox h1 h2]
  by_cases q : 0 ≤ k ∧ k < 3
  · refine ⟨fun z => absurd q z, fun _ => ?_⟩
    simp only [if_pos q, iI_lit, iI_add, iI_sub, iI_mul, iI_neg, Option.bind_some, if_true, if_false, Int.reduceEq, Int.reduceLE, Int.reduceLT, Int.reduceAdd, Int.reduceSub, Int.reduceMul, Int.reduceNeg, Nat.reduceEqDiff, show ¬ iI 1 = iI 0 by decide]
    rw [stb_1 (by omega) (by omega) (by omega) (Or.inr rfl)]
    have ha := h.2.1
    have : ∃ r, lp (fm_image_b18 (iI k)) (iI 0, aw s 43 k.toNat (iI 1)) = some r ∧ (fr [] [43, 44] s r ∧ r.2.2.1 43 = (aw s 43 k.toNat (iI 1)).2.2.1 43 ∧ (∀ i, 0 ≤ i → i < 28 → r.2.2.1 44 (28 * k + i).toNat = iI (uX μ i)) ∧ (∀ z, 0 ≤ z → (z < 28 * k ∨ 28 * k + 28 ≤ z) → r.2.2.1 44 z.toNat = s.2.2.1 44 z.toNat)) := by
      refine lp_inv (fun i q => q.1 = iI i ∧ fr [] [43, 44] s q.2 ∧ q.2.2.2.1 43 = (aw s 43 k.toNat (iI 1)).2.2.1 43 ∧ (∀ z, 0 ≤ z → z < (i : Int) → q.2.2.2.1 44 (28 * k + z).toNat = iI (uX μ z)) ∧ (∀ z, 0 ≤ z → (z < 28 * k ∨ 28 * k + 28 ≤ z) → q.2.2.2.1 44 z.toNat = s.2.2.1 44 z.toNat)) 28 ?_ ?_ ⟨rfl, fr.refl.aw rfl, rfl, fun z z1 z2 => by omega, fun z _ _ => by rw [aw_get, if_neg (by omega)]⟩
      · rintro i ⟨j, u⟩ hi ⟨g1, g2, g3, g4, g5⟩
        simp only at g1 g2 g3 g4 g5
        subst g1
        have q1 : u.2.2.1 22 (i : Int).toNat = iI (uX μ i) := by rw [g2.a 22 rfl]; exact ha i (by omega) (by omega)
        left
        refine ⟨(iI ((i : Int) + 1), aw u 44 (28 * k + i).toNat (iI (uX μ i))), ?_, rfl, g2.aw rfl, g3, fun z z1 z2 => ?_, fun z z1 z2 => ?_⟩
        · simp (disch := omega) only [fm_image_b18, iI_lit, iI_add, iI_sub, iI_mul, iI_neg, Option.bind_some, if_true, if_false, Int.reduceEq, Int.reduceLE, Int.reduceLT, Int.reduceAdd, Int.reduceSub, Int.reduceMul, Int.reduceNeg, Nat.reduceEqDiff, iI_le, iI_lt, iI_eq, ld_i, sto_w, q1]
          rw [if_neg (by omega)]
        · rw [aw_get]
          by_cases hz : z = i
          · subst hz; rw [if_pos ⟨rfl, rfl⟩]
          · rw [if_neg (by omega)]; exact g4 z z1 (by omega)
        · rw [aw_get, if_neg (by omega)]
          exact g5 z z1 z2
      · rintro ⟨j, u⟩ ⟨g1, g2, g3, g4, g5⟩
        simp only at g1 g2 g3 g4 g5
        subst g1
        refine ⟨u, ?_, g2, g3, fun i i1 i2 => g4 i i1 (by omega), g5⟩
        simp (disch := omega) only [fm_image_b18, iI_lit, iI_add, iI_sub, iI_mul, iI_neg, Option.bind_some, if_true, if_false, Int.reduceEq, Int.reduceLE, Int.reduceLT, Int.reduceAdd, Int.reduceSub, Int.reduceMul, Int.reduceNeg, Nat.reduceEqDiff, iI_le, iI_lt, iI_eq]
        rfl
    obtain ⟨r, er, f, r43, r44, rel⟩ := this
    obtain ⟨hR, -, b, h4, h5, h6, h7, h8, h9⟩ := h
    have hRr := hR.fr f rfl rfl
    have m1 : MR (uImg μ k) r := by
      refine ⟨hRr, f.ar ha rfl, ?_, f.ar h4 rfl, f.ar h5 rfl, fun j hj => ?_, ?_, ?_, ?_⟩
      · obtain ⟨b1, b2, b3, b4, b5, b6, b7, b8⟩ := b
        exact ⟨by rw [f.s 1 rfl]; exact b1, by rw [f.s 2 rfl]; exact b2, by rw [f.s 3 rfl]; exact b3, by rw [f.s 57 rfl]; exact b4, by rw [f.s 58 rfl]; exact b5, by rw [f.s 61 rfl]; exact b6, by rw [f.s 75 rfl]; exact b7, by rw [f.s 76 rfl]; exact b8⟩
      · have hj2 := hj
        simp only [sgJ, List.mem_cons, List.not_mem_nil, or_false] at hj
        rcases hj with rfl | rfl | rfl | rfl | rfl | rfl <;> exact f.ar (h6 _ hj2) rfl
      · intro z z1 z2
        rw [r43]
        exact ar_aw (v := 1) h7 q.1 z z1 z2
      · rw [f.a 24 rfl]; exact h8
      · intro j i j1 j2 hj i1 i2
        have hj : upI (uA μ 43) k 1 j = 1 := hj
        show _ = iI ((if j = k then uX μ else uB μ j) i)
        by_cases hjk : j = k
        · subst hjk
          rw [if_pos rfl]
          exact r44 i i1 i2
        · rw [if_neg hjk, rel _ (by omega) (by omega)]
          unfold upI at hj
          rw [if_neg hjk] at hj
          exact h9 j i j1 j2 hj i1 i2
    obtain ⟨s2, e2, f2⟩ := m_over hRr hw.1 (f.ar ha rfl) hw.2.1
    have hab := atS_b hw.1 (uX μ) (-2)
    refine ⟨s2, ?_, m1.frm f2 rfl rfl⟩
    rw [Option.bind_some, er, Option.bind_some, e2, Option.bind_some]
    rw [m_members hab.1 (by omega)]
    rfl
  · simp only [if_neg q, iI_lit, iI_add, iI_sub, iI_mul, iI_neg, Option.bind_some, if_true, if_false, Int.reduceEq, Int.reduceLE, Int.reduceLT, Int.reduceAdd, Int.reduceSub, Int.reduceMul, Int.reduceNeg, Nat.reduceEqDiff]
    exact ⟨fun _ => trivial, fun z => absurd z q⟩
end C1

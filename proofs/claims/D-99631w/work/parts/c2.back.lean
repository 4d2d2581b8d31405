/-! LAYER 3: the model's way back -/
set_option maxRecDepth 100000
section C2
variable {μ : Mu} {s : mS}
theorem m_back (h : MR μ s) (hw : wfM μ) {k : Int} (h1 : -2147483648 ≤ k) (h2 : k < 2147483648) : (¬ ((0 ≤ k ∧ k < 3) ∧ uA μ 43 k = 1) → fm_back s (iI k) = some (iI (-1), s)) ∧ ((0 ≤ k ∧ k < 3) ∧ uA μ 43 k = 1 → ∃ s', fm_back s (iI k) = some (iI (membN (atS (uR μ) (uB μ k) (-2)) 8), s') ∧ MR (uBack μ k) s') := by
  unfold fm_back
  rw [m_isBox h1 h2]
  by_cases q : 0 ≤ k ∧ k < 3
  · have h43 := h.2.2.2.2.2.2.1 k q.1 q.2
    have h01 := hw.2.2.2.2.2.2.2.2.2.2.1 k
    simp (disch := omega) only [if_pos q, iI_lit, iI_add, iI_sub, iI_mul, iI_neg, Option.bind_some, if_true, if_false, Int.reduceEq, Int.reduceLE, Int.reduceLT, Int.reduceAdd, Int.reduceSub, Int.reduceMul, Int.reduceNeg, Nat.reduceEqDiff, iI_le, iI_lt, iI_eq, show ¬ iI 1 = iI 0 by decide, ld_i, h43]
    by_cases q2 : uA μ 43 k = 0
    · rw [if_pos q2]
      exact ⟨fun _ => rfl, fun z => by omega⟩
    · rw [if_neg q2]
      have q3 : uA μ 43 k = 1 := by omega
      refine ⟨fun z => absurd ⟨q, q3⟩ z, fun _ => ?_⟩
      have hB := fun i => h.2.2.2.2.2.2.2.2 k i q.1 q.2 q3
      have : ∃ r, lp (fm_back_b20 (iI k)) (iI 0, s) = some r ∧ (fr [] [22] s r ∧ ar r 22 28 (uB μ k)) := by
        refine lp_inv (fun i q => q.1 = iI i ∧ fr [] [22] s q.2 ∧ ar q.2 22 i (uB μ k)) 28 ?_ ?_ ⟨rfl, fr.refl, fun z z1 z2 => by omega⟩
        · rintro i ⟨j, u⟩ hi ⟨g1, g2, g3⟩
          simp only at g1 g2 g3
          subst g1
          have q1 : u.2.2.1 44 (28 * k + i).toNat = iI (uB μ k i) := by rw [g2.a 44 rfl]; exact hB i (by omega) (by omega)
          left
          refine ⟨(iI ((i : Int) + 1), aw u 22 (i : Int).toNat (iI (uB μ k i))), ?_, rfl, g2.aw rfl, fun z z1 z2 => ?_⟩
          · simp (disch := omega) only [fm_back_b20, iI_lit, iI_add, iI_sub, iI_mul, iI_neg, Option.bind_some, if_true, if_false, Int.reduceEq, Int.reduceLE, Int.reduceLT, Int.reduceAdd, Int.reduceSub, Int.reduceMul, Int.reduceNeg, Nat.reduceEqDiff, iI_le, iI_lt, iI_eq, ld_i, sto_w, q1]
            rw [if_neg (by omega)]
          · rw [aw_get]
            by_cases hz : z = i
            · subst hz; rw [if_pos ⟨rfl, rfl⟩]
            · rw [if_neg (by omega)]; exact g3 z z1 (by omega)
        · rintro ⟨j, u⟩ ⟨g1, g2, g3⟩
          simp only at g1 g2 g3
          subst g1
          refine ⟨u, ?_, g2, fun z z1 z2 => g3 z z1 (by omega)⟩
          simp (disch := omega) only [fm_back_b20, iI_lit, iI_add, iI_sub, iI_mul, iI_neg, Option.bind_some, if_true, if_false, Int.reduceEq, Int.reduceLE, Int.reduceLT, Int.reduceAdd, Int.reduceSub, Int.reduceMul, Int.reduceNeg, Nat.reduceEqDiff, iI_le, iI_lt, iI_eq]
          rfl
      obtain ⟨r, er, f, r22⟩ := this
      have f2 : fr [57, 58] [22] s (mSi (mSi r 57 (iI 0)) 58 (iI 0)) := (f.mono rfl rfl).trans ((fr.refl.si rfl).si rfl)
      have m1 : MR (uBack μ k) (mSi (mSi r 57 (iI 0)) 58 (iI 0)) := MR.acts h f2 rfl r22 rfl rfl (fun j i c1 c2 c3 c4 => by omega)
      have hR1 : okR (uR μ) (mSi (mSi r 57 (iI 0)) 58 (iI 0)) := m1.1
      have hwB := hw.2.2.2.2.2.2.2.2.2.2.2 k q.1 q.2 q3
      obtain ⟨s2, e2, f3⟩ := m_over hR1 hw.1 (x := uB μ k) r22 hwB
      have hab := atS_b hw.1 (uB μ k) (-2)
      refine ⟨s2, ?_, m1.frm f3 rfl rfl⟩
      rw [er, Option.bind_some]
      simp only [pI]
      rw [Option.bind_some, Option.bind_some, e2, Option.bind_some, m_members hab.1 (by omega)]
      rfl
  · simp only [if_neg q, iI_lit, iI_add, iI_sub, iI_mul, iI_neg, Option.bind_some, if_true, if_false, Int.reduceEq, Int.reduceLE, Int.reduceLT, Int.reduceAdd, Int.reduceSub, Int.reduceMul, Int.reduceNeg, Nat.reduceEqDiff]
    exact ⟨fun _ => trivial, fun z => absurd z.1 q⟩
end C2

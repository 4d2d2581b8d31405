/-! LAYER 3: trips: the model's answer -/
set_option maxRecDepth 100000
section I6
variable {s : mS} {μ : Mu}
theorem M_trips (h : MR μ s) (hw : wfM μ) {b : Int} (b1 : -2147483648 ≤ b) (b2 : b < 2147483648) : ∃ s', fm_trips s (iI b) = some (iI (triV μ b), s') ∧ MR (uTri μ b) s' := by
  have hl := hw.1.2.2.2.1
  have hB := hw.1.2.2.1
  have hx := hw.2.1
  have f0 : fr [61] [23, 26, 27, 28, 29] s (mSi s 61 (iI 0)) := fr.refl.si rfl
  have hR0 := h.1.fr f0 rfl rfl
  have ha0 := f0.ar h.2.1 rfl
  have e0 : fm_trips s (iI b) = (fm_isBoard (mSi s 61 (iI 0)) (iI b)).bind fun p7 => if p7 = 0 then some (iI (-1), mSi s 61 (iI 0)) else (fm_nearLoads (mSi s 61 (iI 0))).bind fun p16 => (lp (fm_trips_b27 (iI b) p16.1 (iI 1000000)) (iI 0, p16.2)).bind fun q27 => (fm_layBefore q27 p16.1).bind fun p50 => (lp (fm_trips_b57 (iI b) p16.1) (iI 1000000, iI 1, p50.2)).bind fun q57 => if q57.1 = iI 1000000 then some (iI (-1), q57.2) else some (q57.1, q57.2) := by
    unfold fm_trips
    simp only [pI, obs]
    rfl
  unfold triV uTri
  rw [e0, m_isBoard hR0 hw.1 b1 b2, obs]
  by_cases hb : 0 ≤ b ∧ b < rB (uR μ)
  rotate_left
  · rw [if_neg hb, if_pos (by rfl), if_neg (fun z => hb z.1), if_neg (fun z => hb z.1)]
    exact ⟨_, rfl, h.nil f0 rfl rfl⟩
  rw [if_pos hb, if_neg (by decide)]
  obtain ⟨s1, e1, f1⟩ := m_nearLoads hR0 hw.1 ha0 hx
  have f01 : fr [61] [23, 26, 27, 28, 29] s s1 := f0.trans (f1.mono rfl rfl)
  have h61 : s1.1 61 = iI 0 := by rw [f1.s 61 rfl]; rfl
  have l1 : ∃ q, lp (fm_trips_b27 (iI b) (iI (atS (uR μ) (uX μ) (-1))) (iI 1000000)) (iI 0, s1) = some q ∧ (fr [] [27] s1 q ∧ ∀ j : Nat, j < 7 → q.2.2.1 27 j = iI 0) := by
    refine lp_inv (fun i q => q.1 = iI i ∧ fr [] [27] s1 q.2 ∧ ∀ j : Nat, j < i → q.2.2.2.1 27 j = iI 0) 7 ?_ ?_ ⟨rfl, fr.refl, fun j hj => by omega⟩
    · rintro i ⟨j, u⟩ hi ⟨g1, g2, g3⟩
      simp only at g1 g2 g3
      subst g1
      left
      refine ⟨(iI ((i : Int) + 1), aw u 27 (i : Int).toNat (iI 0)), ?_, rfl, g2.aw rfl, fun j hj => ?_⟩
      · simp (disch := omega) only [fm_trips_b27, iI_lit, iI_add, iI_sub, iI_mul, iI_neg, obs, if_true, if_false, Int.reduceEq, Int.reduceLE, Int.reduceLT, Int.reduceAdd, Int.reduceSub, Int.reduceMul, Int.reduceNeg, Nat.reduceEqDiff, iI_le, iI_lt, iI_eq, sto_w]
        rw [if_neg (by omega)]
      · rw [aw_get, Int.toNat_natCast]
        by_cases hz : j = i
        · rw [if_pos ⟨rfl, hz⟩]
        · rw [if_neg (by omega)]
          exact g3 j (by omega)
    · rintro ⟨j, u⟩ ⟨g1, g2, g3⟩
      simp only at g1 g2 g3
      subst g1
      refine ⟨u, ?_, g2, g3⟩
      simp (disch := omega) only [fm_trips_b27, iI_lit, iI_add, iI_sub, iI_mul, iI_neg, obs, if_true, if_false, Int.reduceEq, Int.reduceLE, Int.reduceLT, Int.reduceAdd, Int.reduceSub, Int.reduceMul, Int.reduceNeg, Nat.reduceEqDiff, iI_le, iI_lt, iI_eq]
      rw [if_pos (by omega)]
  obtain ⟨s2, e2, f2, a2⟩ := l1
  have f02 : fr [61] [23, 26, 27, 28, 29] s s2 := f01.trans (f2.mono rfl rfl)
  have z8 : d8 (fun _ => 0) := fun _ => (by decide : (0 : Int) ≤ 0 ∧ (0 : Int) < 8)
  have d2 : dgT (uR μ) s2 (fun _ => 0) := fun j hj => a2 j (by omega)
  obtain ⟨s3, e3, f3, -⟩ := m_layBefore (x := uX μ) (h.1.fr f02 rfl rfl) hw.1 z8 d2
  have f03 : fr [61] [23, 26, 27, 28, 29] s s3 := f02.trans (f3.mono rfl rfl)
  have d3 : dgT (uR μ) s3 (joinI ((0 : Nat) : Int) (fun _ => 0) (fun _ => 0)) := fun j hj => by
    rw [f3.a 27 rfl, d2 j hj]
    unfold joinI
    congr 1
    try (split <;> rfl)
  have hld : ldT (uR μ) (1000000, uA μ 26) s3 := Or.inl ⟨rfl, by rw [f3.s 61 rfl, f2.s 61 rfl]; exact h61⟩
  obtain ⟨E, s4, g1, g2, g3, g4, g5, g6⟩ := rows_from (x := uX μ) h.1 hw.1 hb (rL (uR μ)).toNat 0 (by omega) (fun _ => 0) z8 rfl (1000000, uA μ 26) (Or.inl rfl) s3 f03 d3 hld
  have hT : TF 8 (rL (uR μ)).toNat (fun t => upT (uR μ) (uX μ) (rBW (uR μ) b) (joinI ((0 : Nat) : Int) (fun _ => 0) t)) (1000000, uA μ 26) = triA μ b := by
    refine TF_cg _ _ _ _ (fun t => ?_)
    refine upT_ext hw.1 _ _ _ _ (fun i i1 i2 => ?_)
    unfold joinI
    rw [if_neg (by omega)]
    congr 1
    omega
  have hab : accB 8 (triA μ b) := by
    rw [← hT]
    exact accT_TF hw.1 _ _ _ (Or.inl rfl)
  rw [hT] at g5 g6
  have en := m_nextEnd (h.1.fr g2 rfl rfl) hw.1 g1.1 g3 g4 (fun j hj hn => g1.2.2 j (by omega) hj hn)
  have e6 := g6 _ en
  have eo : fm_trips_b57 (iI b) (iI (atS (uR μ) (uX μ) (-1))) (iI (triA μ b).1, iI 0, s4) = some (.inr (iI (triA μ b).1, s4)) := by
    unfold fm_trips_b57
    rw [if_pos (by rfl)]
  simp only at e6
  rw [lp_out eo] at e6
  have hbb : 0 ≤ (triA μ b).1 ∧ (triA μ b).1 ≤ 1000000 := by rcases hab with z | z <;> omega
  rw [e1, obs]
  simp only
  rw [e2, obs, e3, obs, e6, obs]
  simp (disch := omega) only [iI_le, iI_lt, iI_eq]
  refine ⟨s4, ?_, ?_⟩
  · by_cases c : (triA μ b).1 = 1000000
    · rw [if_pos c, if_neg (fun z => z.2 c)]
    · rw [if_neg c, if_pos ⟨hb, c⟩]
  · rcases g5 with z | z
    · rw [if_neg (fun w => w.2 z.1)]
      exact h.nil g2 rfl z.2
    · rw [if_pos ⟨hb, z.1⟩]
      exact h.lay g2 rfl z.2.1 z.2.2
end I6

/-! LAYER 3: mooring: the component's answer -/
set_option maxRecDepth 100000
section H4
variable {G : ai_G} {O : Nat → Nat} {y : yS} {μ : Mu} {X r : Nat} {bd ld : Nat → Nat}
theorem X_mooring (h : XR G y μ X) (hw : wfM μ) (hb : 0 ≤ (mooA μ).1 ∧ (mooA μ).1 ≤ 4 ∧ 0 ≤ (mooA μ).2.1 ∧ (mooA μ).2.1 ≤ 64) {k : Int} (k1 : -2147483648 ≤ k) (k2 : k < 2147483648) : ∃ y', fy_B_mooring G y X (iI k) = some (iI (mooV μ k), y') ∧ XR G y' (uMoo μ k) X ∧ bnd y y' := by
  have hB := hw.1.2.2.1
  have hr := hw.1.2.1
  have hC := hw.1.1
  have hx := hw.2.1
  have hMb := mooS_b hw.1 hx
  unfold mooV uMoo
  by_cases hk : 0 ≤ k ∧ k ≤ 1
  rotate_left
  · refine ⟨y, ?_, by rw [if_neg hk]; exact h, bnd.refl⟩
    unfold fy_B_mooring
    simp (disch := omega) only [iI_lit, iI_add, iI_sub, iI_mul, iI_neg, obs, if_true, if_false, Int.reduceEq, Int.reduceLE, Int.reduceLT, Int.reduceAdd, Int.reduceSub, Int.reduceMul, Int.reduceNeg, Nat.reduceEqDiff, c_isIn, if_neg hk]
  rw [if_pos hk, if_pos hk]
  obtain ⟨O, r, bd, ld, K, sg, h⟩ := h
  have hc := h.xc
  have hXn := hc.1.1.2.1
  have l0 : ∃ q, lp (fy_B_mooring_b13 G X (iI k)) (iI 0, y) = some q ∧ (yF O [2, 24, 104, 17] 0 0 y q ∧ ∀ j : Nat, (j : Int) < rB (uR μ) → ya q (X + 33) j = iI (mooS (uR μ) (uX μ) j)) := by
    refine lp_inv (fun i q => q.1 = iI i ∧ yF O [2, 24, 104, 17] 0 0 y q.2 ∧ ∀ j : Nat, j < i → ya q.2 (X + 33) j = iI (mooS (uR μ) (uX μ) j)) (rB (uR μ)).toNat ?_ ?_ ⟨rfl, yF.refl, fun j hj => by omega⟩
    · rintro i ⟨j, u⟩ hi ⟨g1, g2, g3⟩
      simp only at g1 g2 g3
      subst g1
      have hu := hc.fr g2 rfl
      have a1 := s_a1 hu.2.2.1 hu.2.2.2 (b := i) (by omega) (by omega)
      have hxi := hx.1 i (by omega) (by omega)
      have hn := g2.nx
      left
      by_cases h0 : uX μ (4 + i) = 0
      · obtain ⟨u2, e2, f2⟩ := c_landingsOf hu hw.1 hx (b := i) (by omega) (by omega)
        have em : mooS (uR μ) (uX μ) i = landS (uR μ) (uX μ) i := if_pos h0
        have f02 : yF O [2, 24, 104, 17] 0 0 y u2 := g2.t0 (f2.mono rfl (by omega) (by omega))
        have hu2 := hc.fr f02 rfl
        have w1 : wA u2 (X + 33) (iI i) (iI (landS (uR μ) (uX μ) i)) = some (yw u2 (X + 33) (i : Int).toNat (iI (landS (uR μ) (uX μ) i))) := wA_n 4 (x_t33 hu2.1) (by omega) (by omega) (by omega)
        refine ⟨(iI ((i : Int) + 1), yw u2 (X + 33) (i : Int).toNat (iI (landS (uR μ) (uX μ) i))), ?_, rfl, f02.w (by rw [x_o33 h.1]; rfl), fun j hj => ?_⟩
        · simp (disch := omega) only [fy_B_mooring_b13, x_c hu.1, c_boards hu.1 hu.2.1, iI_lit, iI_add, iI_sub, iI_mul, iI_neg, obs, if_true, if_false, Int.reduceEq, Int.reduceLE, Int.reduceLT, Int.reduceAdd, Int.reduceSub, Int.reduceMul, Int.reduceNeg, Nat.reduceEqDiff, iI_le, iI_lt, iI_eq, x_22 hu.1, x_1 hu.1, s_1 hu.2.2.1, a1, h0, e2, w1]
          rw [if_neg (by omega)]
        · rw [yw_get, Int.toNat_natCast]
          by_cases hz : j = i
          · rw [if_pos ⟨rfl, hz⟩, hz, em]
          · rw [if_neg (by omega), f2.arr (by omega) (by rw [x_o33 h.1]; rfl)]
            exact g3 j (by omega)
      · have em : mooS (uR μ) (uX μ) i = 0 := if_neg h0
        have w1 : wA u (X + 33) (iI i) (iI 0) = some (yw u (X + 33) (i : Int).toNat (iI 0)) := wA_n 4 (x_t33 hu.1) (by omega) (by omega) (by omega)
        refine ⟨(iI ((i : Int) + 1), yw u (X + 33) (i : Int).toNat (iI 0)), ?_, rfl, g2.w (by rw [x_o33 h.1]; rfl), fun j hj => ?_⟩
        · simp (disch := omega) only [fy_B_mooring_b13, x_c hu.1, c_boards hu.1 hu.2.1, iI_lit, iI_add, iI_sub, iI_mul, iI_neg, obs, if_true, if_false, Int.reduceEq, Int.reduceLE, Int.reduceLT, Int.reduceAdd, Int.reduceSub, Int.reduceMul, Int.reduceNeg, Nat.reduceEqDiff, iI_le, iI_lt, iI_eq, x_22 hu.1, x_1 hu.1, s_1 hu.2.2.1, a1, if_neg h0, w1]
          rw [if_neg (by omega)]
        · rw [yw_get, Int.toNat_natCast]
          by_cases hz : j = i
          · rw [if_pos ⟨rfl, hz⟩, hz, em]
          · rw [if_neg (by omega)]
            exact g3 j (by omega)
    · rintro ⟨j, u⟩ ⟨g1, g2, g3⟩
      simp only at g1 g2 g3
      subst g1
      have hu := hc.fr g2 rfl
      refine ⟨u, ?_, g2, fun j hj => g3 j (by omega)⟩
      simp (disch := omega) only [fy_B_mooring_b13, x_c hu.1, c_boards hu.1 hu.2.1, iI_lit, iI_add, iI_sub, iI_mul, iI_neg, obs, if_true, if_false, Int.reduceEq, Int.reduceLE, Int.reduceLT, Int.reduceAdd, Int.reduceSub, Int.reduceMul, Int.reduceNeg, Nat.reduceEqDiff, iI_le, iI_lt, iI_eq]
      rw [if_pos (by omega)]
  obtain ⟨v, e1, f1, a1⟩ := l0
  have hv := hc.fr f1 rfl
  have f2 : yF O [11, 10, 220, 221] 0 0 v (sF v X 20 (iI (-1))) := yF.refl.sf (by rw [x_lb h.1]; rfl)
  have hv2 := hv.fr f2 rfl
  have hst : miI O v X (uR μ) (uX μ) (fun _ => 0) 0 (-1, 0, uA μ 26) (sF v X 20 (iI (-1))) := by
    refine ⟨f2, ?_, fun q => absurd q (by decide : ¬ (0 : Int) ≤ -1), fun z z1 z2 => by omega⟩
    rw [sF_get, if_pos ⟨rfl, rfl⟩]
  obtain ⟨u, e, s⟩ := c_goMoor hv hw.1 hx a1 (rB (uR μ)).toNat 0 (by omega) 6 (by omega) (fun _ => 0) (fun _ => ⟨(by decide : (0:Int) ≤ 0), (by decide : (0:Int) < 9)⟩) rfl (-1, 0, uA μ 26) (Or.inl ⟨rfl, rfl⟩) _ hst
  have hT : TF 9 (rB (uR μ)).toNat (fun t => upM (uR μ) (uX μ) (joinI (0 : Nat) (fun _ => 0) t)) (-1, 0, uA μ 26) = mooA μ := by
    refine TF_cg _ _ _ _ (fun t => ?_)
    refine upM_ext hw.1 _ _ _ (fun i i1 i2 => ?_)
    unfold joinI
    rw [if_neg (by omega)]
    congr 1
    omega
  rw [hT] at s
  obtain ⟨s1, s2, s3, -⟩ := s
  have s3 := s3 hb.1
  have hu := hv.fr s1 rfl
  have f3 : yF O [2, 24, 104, 17, 11, 10, 220, 221, 213] 0 0 y u := yF.t0 (f1.mono rfl (by omega) (by omega)) (s1.mono rfl (by omega) (by omega))
  have f4 : yF O [2, 24, 104, 17, 11, 10, 220, 221, 213] 0 0 y (sF u X 13 (iI (rB (uR μ)))) := f3.sf (by rw [x_lb h.1]; rfl)
  refine ⟨sF u X 13 (iI (rB (uR μ))), ?_, XR.of (h.lay f4 rfl (by rw [sF_get, if_pos ⟨rfl, rfl⟩]) (fun z z1 z2 => s3.2 z z1 z2)), f4.room (by omega) (by omega)⟩
  unfold fy_B_mooring
  have h4 := h.1.fr f4 rfl
  have g20 : gI 0 20 (sF u X 13 (iI (rB (uR μ)))) X = some (iI (mooA μ).1) := by
    rw [gI_ok h4.1.1, sF_get, if_neg (by omega), s2]
  have g21 : gI 0 21 (sF u X 13 (iI (rB (uR μ)))) X = some (iI (mooA μ).2.1) := by
    rw [gI_ok h4.1.1, sF_get, if_neg (by omega), s3.1]
  simp (disch := omega) only [iI_lit, c_isIn, if_pos hk, obs, e1, iI_le, iI_lt, iI_eq, iI_neg]
  rw [if_neg (by decide), x_wI hv.1 rfl, obs, x_c hv2.1, obs, show fy_B_goMoor_N G 6 (sF v X 20 (iI (-1))) X (iI 0) (iI 0) (iI 0) (iI 0) = some u from e, obs, x_c hu.1, obs, c_boards hu.1 hu.2.1, obs, x_wI hu.1 rfl, obs]
  by_cases h0 : k = 0
  · rw [if_pos h0, if_pos h0, g20, obs]
  · rw [if_neg h0, if_neg h0, g21, obs]
end H4

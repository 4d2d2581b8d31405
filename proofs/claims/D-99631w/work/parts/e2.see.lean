/-! LAYER 3, the component: boxes, sights, time, the tape -/
set_option maxRecDepth 100000
theorem bc_tab : ∀ S : Fin 256, fy_J14_bitCount (iI S.val) = some (iI (membN S.val 8)) := by decide +kernel
theorem c_bitCount {S : Int} (h1 : 0 ≤ S) (h2 : S < 256) : fy_J14_bitCount (iI S) = some (iI (membN S 8)) := by
  obtain ⟨k, rfl⟩ : ∃ k : Nat, S = k := ⟨S.toNat, by omega⟩
  exact bc_tab ⟨k, by omega⟩
section E2
variable {G : ai_G} {O : Nat → Nat} {L : List Nat} {c d : Nat} {y y1 : yS} {μ : Mu} {X r : Nat} {bd ld : Nat → Nat} {K : Int → Nat} {sg : Nat → Nat}
theorem x_box (hS : xS O y X r) {k : Int} (h1 : 0 ≤ k) (h2 : k < 3) : aE G y (X + 38) (iI k) = some (X + 39 + k.toNat) ∧ yt y (X + 39 + k.toNat) = some (.inr 6) ∧ O (X + 39 + k.toNat) = 25 := by
  refine ⟨?_, ?_, ?_⟩
  · rw [aE_n (x_t38 hS) (by omega) h1 (by omega) (by omega)]
    exact hS.2.2.2.2.2.2 _ (by omega)
  · obtain rfl | rfl | rfl : k = 0 ∨ k = 1 ∨ k = 2 := by omega
    · exact x_tag hS (39, .inr 6) (by simp [tagO])
    · exact x_tag hS (40, .inr 6) (by simp [tagO])
    · exact x_tag hS (41, .inr 6) (by simp [tagO])
  · obtain rfl | rfl | rfl : k = 0 ∨ k = 1 ∨ k = 2 := by omega
    · exact x_o39 hS
    · exact x_o40 hS
    · exact x_o41 hS
theorem X_image (h : XR G y μ X) (hw : wfM μ) {k : Int} (h1 : -2147483648 ≤ k) (h2 : k < 2147483648) : (¬ (0 ≤ k ∧ k < 3) → fy_B_image G y X (iI k) = some (iI (-1), y)) ∧ ((0 ≤ k ∧ k < 3) → ∃ y', fy_B_image G y X (iI k) = some (iI (membN (atS (uR μ) (uX μ) (-2)) 8), y') ∧ XR G y' (uImg μ k) X ∧ bnd y y') := by
  obtain ⟨O, r, bd, ld, K, sg, h⟩ := h
  have hl7 : rL (uR μ) ≤ 7 := hw.1.2.2.2.1.2
  unfold fy_B_image
  simp (disch := omega) only [iI_lit, iI_add, iI_sub, iI_mul, iI_neg, obs, if_true, if_false, Int.reduceEq, Int.reduceLE, Int.reduceLT, Int.reduceAdd, Int.reduceSub, Int.reduceMul, Int.reduceNeg, Nat.reduceEqDiff, c_isIn]
  by_cases hk : 0 ≤ k ∧ k < 3
  rotate_left
  · exact ⟨fun _ => by simp only [if_neg (show ¬ (0 ≤ k ∧ k ≤ 2) by omega), iI_lit, iI_add, iI_sub, iI_mul, iI_neg, obs, if_true, if_false, Int.reduceEq, Int.reduceLE, Int.reduceLT, Int.reduceAdd, Int.reduceSub, Int.reduceMul, Int.reduceNeg, Nat.reduceEqDiff], fun z => absurd z hk⟩
  refine ⟨fun z => absurd hk z, fun _ => ?_⟩
  have hh := h.rel (O' := lb9 O (yn y) [27, 47, 47, 47, 47, 47, 47] 8) lb9_lt
  obtain ⟨o0, o1, -⟩ := lab7 (O := O) (m := yn y) (z := 8)
  generalize lb9 O (yn y) [27, 47, 47, 47, 47, 47, 47] 8 = O' at *
  have hx := hh.xc
  obtain ⟨hS, hR, ⟨hN, hV⟩, hI, hT, hL, hW, hK, hB, hg⟩ := hh
  obtain ⟨b1, b2, b3⟩ := x_box (G := G) hS hk.1 hk.2
  obtain ⟨y1, e1, f1, s1, v1⟩ := c_copy (G := G) (lab := 27) hN hV hl7 o0 o1 (by decide)
  have hXn := hS.1.2.1
  have f2 : yF O' [25] 0 0 y1 (sR y1 (X + 39 + k.toNat) 0 (some (yn y))) := yF.refl.sr (by rw [b3]; rfl)
  have f02 : yF O' [25] 7 34 y (sR y1 (X + 39 + k.toNat) 0 (some (yn y))) := f1.tr f2 rfl rfl (by omega) (by omega)
  have hx2 := hx.fr f02 rfl
  have ha := atS_b hw.1 (uX μ) (-2)
  refine ⟨sR y1 (X + 39 + k.toNat) 0 (some (yn y)), ?_, ?_, f02.room (by omega) (by omega)⟩
  · simp only [if_pos (show 0 ≤ k ∧ k ≤ 2 by omega), iI_lit, iI_add, iI_sub, iI_mul, iI_neg, obs, if_true, if_false, Int.reduceEq, Int.reduceLE, Int.reduceLT, Int.reduceAdd, Int.reduceSub, Int.reduceMul, Int.reduceNeg, Nat.reduceEqDiff, show ¬ iI 1 = iI 0 by decide, x_28 hS, b1, x_1 hS, e1]
    rw [wR_ok (by rw [f1.tag (by omega)]; exact b2), obs, x_c hx2.1, obs, c_over hx2 hw.1 hw.2.1, obs, c_bitCount ha.1 (by omega)]
    rfl
  · refine ⟨O', r, bd, ld, K, sg, hS.fr f02 rfl, hR.fr f02 rfl rfl, ⟨hN.fr f02 rfl, hV.fr hN f02 rfl rfl rfl⟩, hI.fr hS f02 rfl, hT.fr hS f02 rfl, hL.fr hS f02 rfl, hW.fr hS f02 rfl, hK.fr f02 rfl, ?_, hg.fr f02 rfl⟩
    intro i hi
    show (upI (uA μ 43) k 1 i = 0 ∧ _) ∨ (upI (uA μ 43) k 1 i = 1 ∧ ∃ q, _ ∧ _ ∧ vlY _ _ q (if (i : Int) = k then uX μ else uB μ i))
    by_cases hik : (i : Int) = k
    · right
      refine ⟨if_pos hik, yn y, ?_, s1.fr f2 rfl, ?_⟩
      · rw [sR_get, if_pos ⟨by omega, rfl⟩]
      · rw [if_pos hik]
        exact v1.fr s1 f2 rfl rfl rfl
    · unfold upI
      rw [if_neg hik, if_neg hik]
      have hb := hB.fr hS (f1.m0 (L' := []) rfl) rfl i hi
      rw [sR_get, if_neg (fun z => hik (by omega))]
      rcases hb with hb | ⟨g1, q, g2, g3, g4⟩
      · exact Or.inl hb
      · exact Or.inr ⟨g1, q, g2, g3.fr f2 rfl, g4.fr g3 f2 rfl rfl rfl⟩
theorem X_back (h : XR G y μ X) (hw : wfM μ) {k : Int} (h1 : -2147483648 ≤ k) (h2 : k < 2147483648) : (¬ ((0 ≤ k ∧ k < 3) ∧ uA μ 43 k = 1) → fy_B_back G y X (iI k) = some (iI (-1), y)) ∧ ((0 ≤ k ∧ k < 3) ∧ uA μ 43 k = 1 → ∃ y', fy_B_back G y X (iI k) = some (iI (membN (atS (uR μ) (uB μ k) (-2)) 8), y') ∧ XR G y' (uBack μ k) X ∧ bnd y y') := by
  obtain ⟨O, r, bd, ld, K, sg, h⟩ := h
  have hl7 : rL (uR μ) ≤ 7 := hw.1.2.2.2.1.2
  have hb57 := hw.2.2.2.2.1
  have hx := h.xc
  obtain ⟨hS, hR, ⟨hN, hV⟩, hI, hT, hL, hW, hK, hB, hg⟩ := h
  unfold fy_B_back
  simp (disch := omega) only [iI_lit, iI_add, iI_sub, iI_mul, iI_neg, obs, if_true, if_false, Int.reduceEq, Int.reduceLE, Int.reduceLT, Int.reduceAdd, Int.reduceSub, Int.reduceMul, Int.reduceNeg, Nat.reduceEqDiff, c_isIn]
  by_cases hk : 0 ≤ k ∧ k < 3
  rotate_left
  · exact ⟨fun _ => by simp only [if_neg (show ¬ (0 ≤ k ∧ k ≤ 2) by omega), iI_lit, iI_add, iI_sub, iI_mul, iI_neg, obs, if_true, if_false, Int.reduceEq, Int.reduceLE, Int.reduceLT, Int.reduceAdd, Int.reduceSub, Int.reduceMul, Int.reduceNeg, Nat.reduceEqDiff], fun z => absurd z.1 hk⟩
  obtain ⟨b1, b2, b3⟩ := x_box (G := G) hS hk.1 hk.2
  have hkk : ((k.toNat : Nat) : Int) = k := by omega
  simp only [if_pos (show 0 ≤ k ∧ k ≤ 2 by omega), iI_lit, iI_add, iI_sub, iI_mul, iI_neg, obs, if_true, if_false, Int.reduceEq, Int.reduceLE, Int.reduceLT, Int.reduceAdd, Int.reduceSub, Int.reduceMul, Int.reduceNeg, Nat.reduceEqDiff, show ¬ iI 1 = iI 0 by decide, x_28 hS, b1, x_1 hS]
  have hb := hB k.toNat (by omega)
  rw [hkk] at hb
  have eN : ∀ v, yr y (X + 39 + k.toNat) 0 = v → gN 6 0 y (X + 39 + k.toNat) = some v := fun v hv => by unfold gN; rw [if_pos b2, hv]
  rcases hb with ⟨g1, g2⟩ | ⟨g1, q, g2, g3, g4⟩
  · refine ⟨fun _ => ?_, fun z => absurd z.2 (by omega)⟩
    rw [eN _ g2, obs, if_pos rfl]
  refine ⟨fun z => absurd ⟨hk, g1⟩ z, fun _ => ?_⟩
  have hsep : X + 8 + 6 < q ∨ q + 6 < X + 8 := by
    have o1 := hN.2.2.1
    have o2 := hN.2.2.2.1
    have p1 := g3.2.2.1
    have p2 := g3.2.2.2.1
    by_cases c1 : X + 8 + 6 < q
    · exact Or.inl c1
    · by_cases c2 : q + 6 < X + 8
      · exact Or.inr c2
      · exfalso
        by_cases c3 : q ≤ X + 8
        · by_cases c4 : q = X + 8
          · rw [c4, o1] at p1; cases p1
          · have := p2 (X + 8 - q) (by omega) (by omega)
            rw [show q + (X + 8 - q) = X + 8 by omega, o1] at this
            cases this
        · have := o2 (q - (X + 8)) (by omega) (by omega)
          rw [show X + 8 + (q - (X + 8)) = q by omega, p1] at this
          cases this
  obtain ⟨y1, e1, f1, v1⟩ := c_stOf (G := G) hN g3 g4 hsep hl7 rfl
  have f1 : yF O [23, 103] 0 0 y y1 := f1
  obtain ⟨k1, k2, k3, k4⟩ := hK
  have S1 := hS.fr f1 rfl
  have a1 := k1.fr f1 rfl rfl rfl
  obtain ⟨y2, e2, f2, l2⟩ := l_clear a1 (by decide) (by omega)
  have f2 : yF O [8, 108] 0 0 y1 y2 := f2
  have S2 := S1.fr f2 rfl
  have a2 := (k2.fr f1 rfl rfl rfl).fr f2 rfl rfl rfl
  obtain ⟨y3, e3, f3, l3⟩ := l_clear a2 (by decide) (by omega)
  have f3 : yF O [9, 109] 0 0 y2 y3 := f3
  have f03 : yF O [23, 103, 8, 108, 9, 109] 0 0 y y3 := ((f1.m0 rfl).t0 (f2.m0 rfl)).t0 (f3.m0 rfl)
  have v3 := (v1.fr (hN.fr f1 rfl) f2 rfl rfl rfl).fr ((hN.fr f1 rfl).fr f2 rfl) f3 rfl rfl rfl
  have hx3 : XC G O y3 (uR μ) (uB μ k) X r bd ld := ⟨hS.fr f03 rfl, hR.fr f03 rfl rfl, hN.fr f03 rfl, v3⟩
  have hwx : wfS (uR μ) (uB μ k) := hw.2.2.2.2.2.2.2.2.2.2.2 k hk.1 hk.2 g1
  have ha := atS_b hw.1 (uB μ k) (-2)
  refine ⟨y3, ?_, ?_, f03.room (by omega) (by omega)⟩
  · rw [eN _ g2, obs, if_neg (by simp)]
    simp only [gR_ok b2 g2, s_c hN, e1, obs, x_9 S1, l_c a1, e2, x_10 S2, l_c a2, e3, x_c hx3.1, c_over hx3 hw.1 hwx]
    rw [c_bitCount ha.1 (by omega)]
    rfl
  · refine ⟨O, r, bd, ld, K, sg, hS.fr f03 rfl, hR.fr f03 rfl rfl, ⟨hN.fr f03 rfl, v3⟩, hI.fr hS f03 rfl, hT.fr hS f03 rfl, hL.fr hS f03 rfl, hW.fr hS f03 rfl, ?_, hB.fr hS f03 rfl, hg.fr f03 rfl⟩
    show xK G O y3 (rL (uR μ)) 0 0 (uW μ) X K
    exact ⟨(l2 _).fr f3 rfl rfl rfl, l3 _, fun i i1 i2 => by omega, fun i j i1 i2 i3 => by omega⟩
/-- numbers of the object are written -/
theorem X_later (h : XR G y μ X) (hw : wfM μ) {v : Int} (h1 : -2147483648 ≤ v) (h2 : v < 2147483648) : (¬ (0 ≤ v ∧ v ≤ 1000 ∧ uS μ 76 + v ≤ 100000) → fy_B_later G y X (iI v) = some (iI (-1), y)) ∧ ((0 ≤ v ∧ v ≤ 1000 ∧ uS μ 76 + v ≤ 100000) → ∃ y', fy_B_later G y X (iI v) = some (iI (uS μ 76 + v), y') ∧ XR G y' (uSet μ 76 (uS μ 76 + v)) X ∧ bnd y y') := by
  obtain ⟨O, r, bd, ld, K, sg, h⟩ := h
  have ht := hw.2.2.2.2.2.2.2.2.1
  obtain ⟨hS, hR, ⟨hN, hV⟩, hI, hT, hL, hW, hK, hB, hg⟩ := h
  have e6 := x_i6 hS hI
  unfold fy_B_later
  simp (disch := omega) only [iI_lit, iI_add, iI_sub, iI_mul, iI_neg, obs, if_true, if_false, Int.reduceEq, Int.reduceLE, Int.reduceLT, Int.reduceAdd, Int.reduceSub, Int.reduceMul, Int.reduceNeg, Nat.reduceEqDiff, iI_le, iI_lt, iI_eq, e6, x_wI hS, x_ge hS]
  by_cases c1 : v < 0
  · exact ⟨fun _ => by rw [if_pos c1], fun z => by omega⟩
  by_cases c2 : 1000 < v
  · exact ⟨fun _ => by rw [if_neg c1, if_pos c2], fun z => by omega⟩
  by_cases c3 : uS μ 76 + v ≤ 100000
  rotate_left
  · refine ⟨fun _ => by rw [if_neg c1, if_neg c2, if_neg c3], fun z => by omega⟩
  refine ⟨fun z => absurd ⟨by omega, by omega, c3⟩ z, fun _ => ?_⟩
  have f : yF O [206] 0 0 y (sF y X 6 (iI (uS μ 76 + v))) := yF.refl.sf (by rw [x_lb hS]; rfl)
  refine ⟨sF y X 6 (iI (uS μ 76 + v)), ?_, ?_, f.room (by omega) (by omega)⟩
  · rw [if_neg c1, if_neg c2, if_pos c3, x_wI hS rfl, obs, x_ge hS rfl]
    rfl
  · refine ⟨O, r, bd, ld, K, sg, hS.fr f rfl, hR.fr f rfl rfl, ⟨hN.fr f rfl, hV.fr hN f rfl rfl rfl⟩, ⟨(x_f0 hS f 5 rfl).trans hI.1, by rw [sF_get, if_pos ⟨rfl, rfl⟩]; rfl, (x_f0 hS f 7 rfl).trans hI.2.2.1, (x_f0 hS f 8 rfl).trans hI.2.2.2.1, (x_f0 hS f 13 rfl).trans hI.2.2.2.2⟩, hT.fr hS f rfl, hL.fr hS f rfl, hW.fr hS f rfl, hK.fr f rfl, hB.fr hS f rfl, hg.fr f rfl⟩
theorem X_end (h : XR G y μ X) (hw : wfM μ) {v : Int} (h1 : -2147483648 ≤ v) (h2 : v < 2147483648) : (¬ (0 ≤ v ∧ v ≤ uS μ 1) → fy_B_end G y X (iI v) = some (iI (-1), y)) ∧ ((0 ≤ v ∧ v ≤ uS μ 1) → ∃ y', fy_B_end G y X (iI v) = some (iI v, y') ∧ XR G y' (uSet μ 1 v) X ∧ bnd y y') := by
  obtain ⟨O, r, bd, ld, K, sg, h⟩ := h
  have ht := hw.2.2.1
  obtain ⟨hS, hR, ⟨hN, hV⟩, hI, hT, hL, hW, hK, hB, hg⟩ := h
  have e5 := x_i5 hS hI
  unfold fy_B_end
  simp (disch := omega) only [iI_lit, iI_add, iI_sub, iI_mul, iI_neg, obs, if_true, if_false, Int.reduceEq, Int.reduceLE, Int.reduceLT, Int.reduceAdd, Int.reduceSub, Int.reduceMul, Int.reduceNeg, Nat.reduceEqDiff, iI_le, iI_lt, iI_eq, e5]
  by_cases c1 : v < 0
  · exact ⟨fun _ => by rw [if_pos c1], fun z => by omega⟩
  by_cases c3 : v ≤ uS μ 1
  rotate_left
  · exact ⟨fun _ => by rw [if_neg c1, if_neg c3], fun z => by omega⟩
  refine ⟨fun z => absurd ⟨by omega, c3⟩ z, fun _ => ?_⟩
  have f : yF O [205] 0 0 y (sF y X 5 (iI v)) := yF.refl.sf (by rw [x_lb hS]; rfl)
  refine ⟨sF y X 5 (iI v), ?_, ?_, f.room (by omega) (by omega)⟩
  · rw [if_neg c1, if_pos c3, x_wI hS rfl]
    rfl
  · refine ⟨O, r, bd, ld, K, sg, hS.fr f rfl, hR.fr f rfl rfl, ⟨hN.fr f rfl, hV.fr hN f rfl rfl rfl⟩, ⟨by rw [sF_get, if_pos ⟨rfl, rfl⟩]; rfl, (x_f0 hS f 6 rfl).trans hI.2.1, (x_f0 hS f 7 rfl).trans hI.2.2.1, (x_f0 hS f 8 rfl).trans hI.2.2.2.1, (x_f0 hS f 13 rfl).trans hI.2.2.2.2⟩, hT.fr hS f rfl, hL.fr hS f rfl, hW.fr hS f rfl, hK.fr f rfl, hB.fr hS f rfl, hg.fr f rfl⟩
end E2

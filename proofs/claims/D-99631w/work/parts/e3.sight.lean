/-! LAYER 3, the component: sights, the tape -/
set_option maxRecDepth 100000
section E3
variable {G : ai_G} {O : Nat → Nat} {L : List Nat} {c d : Nat} {y y1 : yS} {μ : Mu} {X r : Nat} {bd ld : Nat → Nat} {K : Int → Nat} {sg : Nat → Nat}
theorem wZ_ok {y : yS} {cc k a : Nat} {v : Int} (h : yt y a = some (.inr cc)) (hv : v = 0 ∨ v = 1) : wZ cc k y a (iI v) = some (sF y a k (iI v)) := by
  unfold wZ
  rw [if_pos]
  refine ⟨h, ?_⟩
  rcases hv with rfl | rfl
  · exact Or.inl rfl
  · exact Or.inr rfl
theorem wI_t {y y' : yS} {cc k a : Nat} {v : Int32} (e : yt y' = yt y) (h : yt y a = some (.inr cc)) : wI cc k y' a v = some (sF y' a k v) := wI_ok (by rw [e]; exact h)
theorem wZ_t {y y' : yS} {cc k a : Nat} {v : Int} (e : yt y' = yt y) (h : yt y a = some (.inr cc)) (hv : v = 0 ∨ v = 1) : wZ cc k y' a (iI v) = some (sF y' a k (iI v)) := wZ_ok (by rw [e]; exact h) hv
def newG (y : yS) (a : Nat) (s m h i t : Int) : yS := sF (sF (sF (sF (sF (sF y a 5 (iI (-1))) a 0 (iI s)) a 1 (iI m)) a 3 (iI h)) a 4 (iI i)) a 2 (iI t)
theorem c_sightInit {a : Nat} {s m h i t : Int} (ht : yt y a = some (.inr 15)) (hh : h = 0 ∨ h = 1) (hi : i = 0 ∨ i = 1) : fy_Sight_init G y a (iI s) (iI m) (iI h) (iI i) (iI t) = some (newG y a s m h i t) := by
  unfold fy_Sight_init
  rw [wI_ok ht, obs, wI_t (y := y) (by rfl) ht, obs, wI_t (y := y) (by rfl) ht, obs, wZ_t (y := y) (by rfl) ht hh, obs, wZ_t (y := y) (by rfl) ht hi, obs, wI_t (y := y) (by rfl) ht, obs]
  rfl
theorem newG_f {a : Nat} {s m h i t : Int} : yf (newG y a s m h i t) a 0 = iI s ∧ yf (newG y a s m h i t) a 1 = iI m ∧ yf (newG y a s m h i t) a 2 = iI t ∧ yf (newG y a s m h i t) a 3 = iI h ∧ yf (newG y a s m h i t) a 4 = iI i ∧ yf (newG y a s m h i t) a 5 = iI (-1) := by
  unfold newG
  simp only [sF_get, true_and]
  refine ⟨rfl, rfl, rfl, rfl, rfl, rfl⟩
theorem X_see (hG : okG G) (h : XR G y μ X) (hw : wfM μ) {sort strokes much is : Int} (h1 : -2147483648 ≤ strokes) (h2 : strokes < 2147483648) (h3 : is = 0 ∨ is = 1) (h4 : sort = 0 ∨ sort = 1) : (¬ canSee μ strokes → fy_B_see G y X (iI strokes) (iI much) (iI sort) (iI is) = some (iI (-1), y)) ∧ (canSee μ strokes → ∃ y', fy_B_see G y X (iI strokes) (iI much) (iI sort) (iI is) = some (iI (uS μ 75), y') ∧ XR G y' (uSee μ sort strokes much is) X ∧ bnd y y') := by
  obtain ⟨O, r, bd, ld, K, sg, h⟩ := h
  have hB9 := hw.1.2.2.1
  have hr9 := hw.1.2.1
  have h75 := hw.2.2.2.2.2.2.2.1
  have h76 := hw.2.2.2.2.2.2.2.2.1
  have hh := h.rel (O' := lb9 O (yn y) [28] 18) lb9_lt
  have o0 : lb9 O (yn y) [28] 18 (yn y) = 28 := lb9_ge (k := 0)
  have o1 : lb9 O (yn y) [28] 18 (yn y + 1) = 18 := lb9_ge (k := 1)
  generalize lb9 O (yn y) [28] 18 = O' at *
  obtain ⟨hS, hR, ⟨hN, hV⟩, hI, hT, hL, hW, hK, hB, hg⟩ := hh
  obtain ⟨g1, g2, g3⟩ := hg
  unfold fy_B_see
  rw [x_c hS, obs, c_boards hS hR, obs, i0]
  simp (disch := omega) only [iI_eq]
  by_cases q1 : rB (uR μ) = 0
  · exact ⟨fun _ => by rw [if_pos q1]; rfl, fun z => absurd q1 z.1⟩
  rw [if_neg q1, x_0 hS, obs, r_row hR, obs, i1, c_isIn h1 h2 (by omega) (by omega) (by omega) (by omega), obs]
  by_cases q2 : 1 ≤ strokes ∧ strokes ≤ rR (uR μ)
  rotate_left
  · exact ⟨fun _ => by rw [if_neg q2]; rfl, fun z => absurd z.2.1 q2⟩
  simp (disch := omega) only [if_pos q2, iI_lit, iI_add, iI_sub, iI_mul, iI_neg, obs, if_true, if_false, Int.reduceEq, Int.reduceLE, Int.reduceLT, Int.reduceAdd, Int.reduceSub, Int.reduceMul, Int.reduceNeg, Nat.reduceEqDiff, show ¬ iI 1 = iI 0 by decide, x_23 hS, l_c g1, l_size g1, iI_le, iI_lt, iI_eq]
  by_cases q3 : uS μ 75 = 30
  · exact ⟨fun _ => by rw [if_pos q3], fun z => absurd q3 z.2.2⟩
  refine ⟨fun z => absurd ⟨q1, q2, q3⟩ z, fun _ => ?_⟩
  rw [if_neg q3]
  have f1 : yF O' [] 1 6 y (nO y 15) := yF.refl.no (k := 15)
  have t1 : yt (nO y 15) (yn y) = some (.inr 15) := by rw [nO_t, if_pos rfl]
  have S1 := hS.fr f1 rfl
  have I1 := hI.fr hS f1 rfl
  have f2 : yF O' [] 1 6 y (newG (nO y 15) (yn y) (strokes - 1) much sort is (uS μ 76)) := (((((f1.sfN (Nat.le_refl _)).sfN (Nat.le_refl _)).sfN (Nat.le_refl _)).sfN (Nat.le_refl _)).sfN (Nat.le_refl _)).sfN (Nat.le_refl _)
  have t2 : yt (newG (nO y 15) (yn y) (strokes - 1) much sort is (uS μ 76)) (yn y) = some (.inr 15) := t1
  have n2 : yn (newG (nO y 15) (yn y) (strokes - 1) much sort is (uS μ 76)) = yn y + 1 := rfl
  have l2 := g1.fr f2 rfl rfl rfl
  obtain ⟨y3, e3, f3, l3⟩ := l_add (v := yn y) hG l2 (by omega) ⟨15, t2, by decide⟩ (by rw [n2]; omega) (fun i hi => by
    obtain ⟨p1, p2, p3, -⟩ := g2 i hi
    exact ⟨by rw [n2]; omega, 15, by rw [f2.tag p3]; exact p1, by decide⟩) (by rw [n2]; exact o1) (by decide)
  have f3 : yF O' [18, 118] 1 60 _ y3 := f3
  have f03 : yF O' [18, 118] 2 66 y y3 := f2.tr f3 rfl rfl (by omega) (by omega)
  have S3 := hS.fr f03 rfl
  have n3 := f3.nx
  refine ⟨y3, ?_, ?_, f03.room (by omega) (by omega)⟩
  · unfold mk
    simp only [obs, x_i6 S1 I1]
    rw [c_sightInit t1 h4 h3, obs, l_c l2, obs, e3, obs, x_23 S3, obs, l_c l3, obs, l_size l3, obs, iI_sub]
    congr 3
    omega
  · refine ⟨O', r, bd, ld, K, fun i => if i = (uS μ 75).toNat then yn y else sg i, hS.fr f03 rfl, hR.fr f03 rfl rfl, ⟨hN.fr f03 rfl, hV.fr hN f03 rfl rfl rfl⟩, hI.fr hS f03 rfl, hT.fr hS f03 rfl, hL.fr hS f03 rfl, hW.fr hS f03 rfl, hK.fr f03 rfl, hB.fr hS f03 rfl, ?_⟩
    show xG G O' y3 (uS μ 75 + 1) (fun j => if j = 34 then upI (uA μ 34) (uS μ 75) sort else if j = 35 then upI (uA μ 35) (uS μ 75) strokes else if j = 36 then upI (uA μ 36) (uS μ 75) much else if j = 37 then upI (uA μ 37) (uS μ 75) (uS μ 76) else if j = 38 then upI (uA μ 38) (uS μ 75) (-1) else if j = 39 then upI (uA μ 39) (uS μ 75) is else uA μ j) X (fun i => if i = (uS μ 75).toNat then yn y else sg i)
    refine ⟨l3, fun i hi => ?_, fun i j i1 i2 => ?_⟩
    · by_cases hin : i = (uS μ 75).toNat
      · have hin2 : (i : Int) = uS μ 75 := by omega
        simp only [if_pos hin, Nat.reduceEqDiff, if_false, if_true, upI, if_pos hin2]
        obtain ⟨w0, w1, w2, w3, w4, w5⟩ := newG_f (y := nO y 15) (a := yn y) (s := strokes - 1) (m := much) (h := sort) (i := is) (t := uS μ 76)
        have ef : ∀ k, yf y3 (yn y) k = yf (newG (nO y 15) (yn y) (strokes - 1) much sort is (uS μ 76)) (yn y) k := fun k => f3.int (by rw [n2]; omega) (by rw [lbF_ne o0 (by decide)]; rfl)
        rw [ef, ef, ef, ef, ef, ef]
        exact ⟨by rw [f3.tag (by rw [n2]; omega)]; exact t2, o0, by omega, w0, w1, w2, w3, w4, w5⟩
      · have hin2 : ¬ (i : Int) = uS μ 75 := by omega
        obtain ⟨p1, p2, p3, p4⟩ := g2 i (by omega)
        simp only [if_neg hin, Nat.reduceEqDiff, if_false, if_true, upI, if_neg hin2]
        have ef : ∀ k, yf y3 (sg i) k = yf y (sg i) k := fun k => f03.int p3 (by rw [lbF_ne p2 (by decide)]; rfl)
        rw [ef, ef, ef, ef, ef, ef]
        exact ⟨by rw [f03.tag p3]; exact p1, p2, by have := f03.nx; omega, p4⟩
    · by_cases hj : j = (uS μ 75).toNat
      · simp only [if_pos hj, if_neg (show ¬ i = (uS μ 75).toNat by omega)]
        have := (g2 i (by omega)).2.2.1
        omega
      · simp only [if_neg hj, if_neg (show ¬ i = (uS μ 75).toNat by omega)]
        exact g3 i j i1 (by omega)
theorem X_passed (hG : okG G) (h : XR G y μ X) (hw : wfM μ) {k c is : Int} (h1 : -2147483648 ≤ k) (h2 : k < 2147483648) (h4 : -2147483648 ≤ c) (h5 : c < 2147483648) (h3 : is = 0 ∨ is = 1) : (¬ ((0 ≤ c ∧ c ≤ 7) ∧ canSee μ k) → fy_B_passed G y X (iI k) (iI c) (iI is) = some (iI (-1), y)) ∧ ((0 ≤ c ∧ c ≤ 7) ∧ canSee μ k → ∃ y', fy_B_passed G y X (iI k) (iI c) (iI is) = some (iI (uS μ 75), y') ∧ XR G y' (uSee μ 0 k c is) X ∧ bnd y y') := by
  obtain ⟨n1, n2⟩ := X_see (much := c) hG h hw h1 h2 h3 (Or.inl rfl)
  obtain ⟨O, r, bd, ld, K, sg, h⟩ := h
  unfold fy_B_passed
  simp (disch := omega) only [iI_lit, iI_add, iI_sub, iI_mul, iI_neg, obs, if_true, if_false, Int.reduceEq, Int.reduceLE, Int.reduceLT, Int.reduceAdd, Int.reduceSub, Int.reduceMul, Int.reduceNeg, Nat.reduceEqDiff, c_isIn]
  by_cases q : 0 ≤ c ∧ c ≤ 7
  rotate_left
  · exact ⟨fun _ => by simp only [if_neg q, iI_lit, iI_add, iI_sub, iI_mul, iI_neg, obs, if_true, if_false, Int.reduceEq, Int.reduceLE, Int.reduceLT, Int.reduceAdd, Int.reduceSub, Int.reduceMul, Int.reduceNeg, Nat.reduceEqDiff], fun z => absurd z.1 q⟩
  simp only [if_pos q, iI_lit, iI_add, iI_sub, iI_mul, iI_neg, obs, if_true, if_false, Int.reduceEq, Int.reduceLE, Int.reduceLT, Int.reduceAdd, Int.reduceSub, Int.reduceMul, Int.reduceNeg, Nat.reduceEqDiff, show ¬ iI 1 = iI 0 by decide, x_c h.1]
  by_cases q2 : canSee μ k
  · obtain ⟨y', e, hx⟩ := n2 q2
    exact ⟨fun z => absurd ⟨q, q2⟩ z, fun _ => ⟨y', by rw [e]; rfl, hx⟩⟩
  · exact ⟨fun _ => by rw [n1 q2]; rfl, fun z => absurd z.2 q2⟩
theorem X_felt (hG : okG G) (h : XR G y μ X) (hw : wfM μ) {k c is : Int} (h1 : -2147483648 ≤ k) (h2 : k < 2147483648) (h4 : -2147483648 ≤ c) (h5 : c < 2147483648) (h3 : is = 0 ∨ is = 1) : (¬ ((0 ≤ c ∧ c ≤ 99) ∧ canSee μ k) → fy_B_felt G y X (iI k) (iI c) (iI is) = some (iI (-1), y)) ∧ ((0 ≤ c ∧ c ≤ 99) ∧ canSee μ k → ∃ y', fy_B_felt G y X (iI k) (iI c) (iI is) = some (iI (uS μ 75), y') ∧ XR G y' (uSee μ 1 k c is) X ∧ bnd y y') := by
  obtain ⟨n1, n2⟩ := X_see (much := c) hG h hw h1 h2 h3 (Or.inr rfl)
  obtain ⟨O, r, bd, ld, K, sg, h⟩ := h
  unfold fy_B_felt
  simp (disch := omega) only [iI_lit, iI_add, iI_sub, iI_mul, iI_neg, obs, if_true, if_false, Int.reduceEq, Int.reduceLE, Int.reduceLT, Int.reduceAdd, Int.reduceSub, Int.reduceMul, Int.reduceNeg, Nat.reduceEqDiff, c_isIn]
  by_cases q : 0 ≤ c ∧ c ≤ 99
  rotate_left
  · exact ⟨fun _ => by simp only [if_neg q, iI_lit, iI_add, iI_sub, iI_mul, iI_neg, obs, if_true, if_false, Int.reduceEq, Int.reduceLE, Int.reduceLT, Int.reduceAdd, Int.reduceSub, Int.reduceMul, Int.reduceNeg, Nat.reduceEqDiff], fun z => absurd z.1 q⟩
  simp only [if_pos q, iI_lit, iI_add, iI_sub, iI_mul, iI_neg, obs, if_true, if_false, Int.reduceEq, Int.reduceLE, Int.reduceLT, Int.reduceAdd, Int.reduceSub, Int.reduceMul, Int.reduceNeg, Nat.reduceEqDiff, show ¬ iI 1 = iI 0 by decide, x_c h.1]
  by_cases q2 : canSee μ k
  · obtain ⟨y', e, hx⟩ := n2 q2
    exact ⟨fun z => absurd ⟨q, q2⟩ z, fun _ => ⟨y', by rw [e]; rfl, hx⟩⟩
  · exact ⟨fun _ => by rw [n1 q2]; rfl, fun z => absurd z.2 q2⟩
theorem X_untell (h : XR G y μ X) (hw : wfM μ) {i : Int} (h1 : -2147483648 ≤ i) (h2 : i < 2147483648) : (¬ ((0 ≤ i ∧ i < uS μ 75) ∧ uA μ 38 i < 0) → fy_B_untell G y X (iI i) = some (iI 0, y)) ∧ ((0 ≤ i ∧ i < uS μ 75) ∧ uA μ 38 i < 0 → ∃ y', fy_B_untell G y X (iI i) = some (iI 1, y') ∧ XR G y' (uUntell μ i) X ∧ bnd y y') := by
  obtain ⟨O, r, bd, ld, K, sg, h⟩ := h
  have h75 := hw.2.2.2.2.2.2.2.1
  have h10 := hw.2.2.2.2.2.2.2.2.2.1
  obtain ⟨hS, hR, ⟨hN, hV⟩, hI, hT, hL, hW, hK, hB, hg⟩ := h
  obtain ⟨g1, g2, g3⟩ := hg
  unfold fy_B_untell
  simp (disch := omega) only [iI_lit, iI_add, iI_sub, iI_mul, iI_neg, obs, if_true, if_false, Int.reduceEq, Int.reduceLE, Int.reduceLT, Int.reduceAdd, Int.reduceSub, Int.reduceMul, Int.reduceNeg, Nat.reduceEqDiff, x_23 hS, l_c g1, l_size g1, c_isIn]
  by_cases q : 0 ≤ i ∧ i < uS μ 75
  rotate_left
  · exact ⟨fun _ => by simp only [if_neg (show ¬ (0 ≤ i ∧ i ≤ uS μ 75 - 1) by omega), iI_lit, iI_add, iI_sub, iI_mul, iI_neg, obs, if_true, if_false, Int.reduceEq, Int.reduceLE, Int.reduceLT, Int.reduceAdd, Int.reduceSub, Int.reduceMul, Int.reduceNeg, Nat.reduceEqDiff], fun z => absurd z.1 q⟩
  obtain ⟨p1, p2, p3, p4, p5, p6, p7, p8, p9⟩ := g2 i.toNat (by omega)
  rw [show ((i.toNat : Nat) : Int) = i by omega] at p4 p5 p6 p7 p8 p9
  have hu := (h10 i q.1 q.2).2.2.2.2.1
  have eg : gI 15 5 y (sg i.toNat) = some (iI (uA μ 38 i)) := by rw [gI_ok p1, p9]
  simp (disch := omega) only [if_pos (show 0 ≤ i ∧ i ≤ uS μ 75 - 1 by omega), iI_lit, iI_add, iI_sub, iI_mul, iI_neg, obs, if_true, if_false, Int.reduceEq, Int.reduceLE, Int.reduceLT, Int.reduceAdd, Int.reduceSub, Int.reduceMul, Int.reduceNeg, Nat.reduceEqDiff, show ¬ iI 1 = iI 0 by decide, l_get g1 q.1 q.2, ck_ok p1, eg, iI_le, iI_lt, iI_eq]
  by_cases q2 : uA μ 38 i < 0
  rotate_left
  · exact ⟨fun _ => by rw [if_neg q2], fun z => absurd z.2 q2⟩
  refine ⟨fun z => absurd ⟨q, q2⟩ z, fun _ => ?_⟩
  rw [if_pos q2, x_i6 hS hI, obs, wI_ok p1, obs]
  have f : yF O [128] 0 0 y (sF y (sg i.toNat) 5 (iI (uS μ 76))) := yF.refl.sf (by rw [lbF_ne p2 (by decide)]; rfl)
  refine ⟨_, rfl, ?_, f.room (by omega) (by omega)⟩
  refine ⟨O, r, bd, ld, K, sg, hS.fr f rfl, hR.fr f rfl rfl, ⟨hN.fr f rfl, hV.fr hN f rfl rfl rfl⟩, hI.fr hS f rfl, hT.fr hS f rfl, hL.fr hS f rfl, hW.fr hS f rfl, hK.fr f rfl, hB.fr hS f rfl, ?_⟩
  show xG G O _ (uS μ 75) (upR (uA μ) 38 (upI (uA μ 38) i (uS μ 76))) X sg
  refine ⟨g1.fr f rfl rfl rfl, fun j hj => ?_, g3⟩
  obtain ⟨r1, r2, r3, r4, r5, r6, r7, r8, r9⟩ := g2 j hj
  simp only [upR, Nat.reduceEqDiff, if_false, if_true]
  by_cases hji : (j : Int) = i
  · have hj2 : j = i.toNat := by omega
    subst hj2
    refine ⟨r1, r2, r3, ?_, ?_, ?_, ?_, ?_, ?_⟩
    · rw [sF_get, if_neg (by omega)]; exact r4
    · rw [sF_get, if_neg (by omega)]; exact r5
    · rw [sF_get, if_neg (by omega)]; exact r6
    · rw [sF_get, if_neg (by omega)]; exact r7
    · rw [sF_get, if_neg (by omega)]; exact r8
    · rw [sF_get, if_pos ⟨rfl, rfl⟩]
      unfold upI
      rw [if_pos hji]
  · have hne : ¬ sg j = sg i.toNat := by
      by_cases c1 : j < i.toNat
      · exact g3 j _ c1 (by omega)
      · intro e
        exact g3 _ j (by omega) hj e.symm
    have hne2 : ∀ k, ¬ (sg j = sg i.toNat ∧ k = 5) := fun k z => hne z.1
    simp only [sF_get, hne, false_and, if_false, upI, if_neg hji]
    exact ⟨r1, r2, r3, r4, r5, r6, r7, r8, r9⟩
end E3

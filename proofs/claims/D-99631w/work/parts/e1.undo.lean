/-! LAYER 3, the component: undo, redo, boxes -/
set_option maxRecDepth 100000
section E1
variable {G : ai_G} {O : Nat → Nat} {L : List Nat} {c d : Nat} {y y1 : yS} {μ : Mu} {X r : Nat} {bd ld : Nat → Nat} {K : Int → Nat} {sg : Nat → Nat}
/-- now and what a Kept holds change places -/
theorem c_turned {k : Nat} {n : Int} {x w : Int → Int} (hS : xS O y X r) (hN : shY O y (X + 8) 3) (hV : vlY y n (X + 8) x) (hn : n ≤ 7) (hk : yt y k = some (.inr 6) ∧ O k = 26 ∧ k < yn y ∧ ∃ q, yr y k 0 = some q ∧ shY O y q 27 ∧ vlY y n q w) (h0 : O (yn y) = 27) (h1 : ∀ i, 1 ≤ i → i ≤ 6 → O (yn y + i) = 27 + 20) : ∃ y', fy_B_turned G y X k = some (k, y') ∧ yF O [23, 103, 26] 7 34 y y' ∧ yn y' = yn y + 7 ∧ vlY y' n (X + 8) w ∧ yr y' k 0 = some (yn y) ∧ shY O y' (yn y) 27 ∧ vlY y' n (yn y) x ∧ (∀ a, ¬ a = k → a < yn y → O a = 26 → yr y' a = yr y a) := by
  obtain ⟨k1, k2, k3, q, k4, k5, k6⟩ := hk
  obtain ⟨y1, e1, f1, s1, v1⟩ := c_copy (G := G) (lab := 27) hN hV hn h0 h1 (by decide)
  have hn1 : yn y1 = yn y + 7 := by have := f1.1; have := s1.2.1; omega
  have S1 := hS.fr f1 rfl
  have N1 := hN.fr f1 rfl
  have q1 := k5.fr f1 rfl
  have w1 := k6.fr k5 f1 rfl rfl rfl
  have hsep : X + 8 + 6 < q ∨ q + 6 < X + 8 := by
    have o1 := hN.2.2.1
    have o2 := hN.2.2.2.1
    have p1 := k5.2.2.1
    have p2 := k5.2.2.2.1
    by_cases c1 : X + 8 + 6 < q
    · exact Or.inl c1
    · by_cases c2 : q + 6 < X + 8
      · exact Or.inr c2
      · exfalso
        by_cases c3 : q ≤ X + 8
        · by_cases c4 : q = X + 8
          · rw [c4, o1] at p1; cases p1
          · have := p2 (X + 8 - q) (by omega) (by omega)
            rw [show q + (X + 8 - q) = X + 8 by omega, o1] at this
            cases this
        · have := o2 (q - (X + 8)) (by omega) (by omega)
          rw [show X + 8 + (q - (X + 8)) = q by omega, p1] at this
          cases this
  obtain ⟨e2, v2⟩ := c_stOfE (G := G) N1 q1 w1 hsep hn
  have f2 : yF O [3 + 20, 100 + 3] 0 0 y1 (stC y1 (X + 8) q (iI (w 27))) := stC_fr N1 rfl
  have f2 : yF O [23, 103] 0 0 y1 (stC y1 (X + 8) q (iI (w 27))) := f2
  have S2 := S1.fr f2 rfl
  have s2 := s1.fr f2 rfl
  have u2 := v1.fr s1 f2 rfl rfl rfl
  have t1 : yt y1 k = some (.inr 6) := by rw [f1.tag k3]; exact k1
  have r1 : yr y1 k 0 = some q := by rw [f1.ref k3 rfl]; exact k4
  have t2 : yt (stC y1 (X + 8) q (iI (w 27))) k = some (.inr 6) := t1
  have hk26 : [23, 103, 26].contains (O k) = true := by rw [k2]; rfl
  have f3 : yF O [26] 0 0 (stC y1 (X + 8) q (iI (w 27))) (sR (stC y1 (X + 8) q (iI (w 27))) k 0 (some (yn y))) := yF.refl.sr (by rw [k2]; rfl)
  have N2 := N1.fr f2 rfl
  refine ⟨sR (stC y1 (X + 8) q (iI (w 27))) k 0 (some (yn y)), ?_, ?_, hn1, v2.fr N2 f3 rfl rfl rfl, by rw [sR_get, if_pos ⟨rfl, rfl⟩], s2.fr f3 rfl, u2.fr s2 f3 rfl rfl rfl, fun a ha hay hao => ?_⟩
  · unfold fy_B_turned
    rw [x_1 hS, obs, e1, obs, x_1 S1, obs, gR_ok t1 r1, obs, s_c N1, obs, e2, obs, wR_ok t2]
    rfl
  · exact (f1.tr f2 rfl rfl (by omega) (by omega)).sr hk26
  · have hr2 : yr (stC y1 (X + 8) q (iI (w 27))) a = yr y a := by
      rw [show yr (stC y1 (X + 8) q (iI (w 27))) = yr y1 from rfl]
      exact f1.ref hay rfl
    rw [← hr2]
    funext j
    rw [sR_get, if_neg (fun z => ha z.1)]
theorem lab7 {O : Nat → Nat} {m z : Nat} : lb9 O m [27, 47, 47, 47, 47, 47, 47] z m = 27 ∧ (∀ i, 1 ≤ i → i ≤ 6 → lb9 O m [27, 47, 47, 47, 47, 47, 47] z (m + i) = 27 + 20) ∧ lb9 O m [27, 47, 47, 47, 47, 47, 47] z (m + 7) = z := by
  refine ⟨lb9_ge (k := 0), fun i i1 i2 => ?_, lb9_ge (k := 7)⟩
  rw [lb9_ge]
  match i, i1, i2 with
  | 1, _, _ => rfl
  | 2, _, _ => rfl
  | 3, _, _ => rfl
  | 4, _, _ => rfl
  | 5, _, _ => rfl
  | 6, _, _ => rfl
/-- what is kept, behind an exchange at j -/
theorem xK_ex {O' : Nat → Nat} {y' y2 : yS} {L : List Nat} {c d : Nat} {n A : Int} {W : Int → Int → Int} {x : Int → Int} {j : Int} (k3 : ∀ i, 0 ≤ i → i < A → yt y (K i) = some (.inr 6) ∧ O' (K i) = 26 ∧ K i < yn y ∧ ∃ q, yr y (K i) 0 = some q ∧ shY O' y q 27 ∧ vlY y n q (W i)) (k4 : ∀ i j, 0 ≤ i → i < j → j < A → ¬ K i = K j) (j1 : 0 ≤ j) (j2 : j < A)
    (f2 : yF O' [8, 108, 9, 109, 23, 103, 26] 7 34 y y') (hst : shY O' y' (yn y) 27 ∧ vlY y' n (yn y) x ∧ yr y' (K j) 0 = some (yn y)) (hoth : ∀ i, 0 ≤ i → i < A → ¬ i = j → yr y' (K i) = yr y (K i)) (f3 : yF O' L c d y' y2) (hL : L.all (fun k => !([26, 27, 127, 47].contains k)) = true) : ∀ i, 0 ≤ i → i < A → yt y2 (K i) = some (.inr 6) ∧ O' (K i) = 26 ∧ K i < yn y2 ∧ ∃ q, yr y2 (K i) 0 = some q ∧ shY O' y2 q 27 ∧ vlY y2 n q (if i = j then x else W i) := by
  intro i i1 i2
  obtain ⟨g1, g2, g3, q, g4, g5, g6⟩ := k3 i i1 i2
  have hn := f2.nx
  refine kept_fr (y := y') ?_ f3 hL
  by_cases hij : i = j
  · subst hij
    rw [if_pos rfl]
    exact ⟨by rw [f2.tag g3]; exact g1, g2, by omega, yn y, hst.2.2, hst.1, hst.2.1⟩
  · rw [if_neg hij]
    exact ⟨by rw [f2.tag g3]; exact g1, g2, by omega, q, by rw [hoth i i1 i2 hij]; exact g4, g5.fr f2 rfl, g6.fr g5 f2 rfl rfl rfl⟩
theorem X_undo (hG : okG G) (h : XR G y μ X) (hw : wfM μ) : ∃ y', fy_B_undo G y X = some (iI (if uS μ 57 = 0 then 0 else 1), y') ∧ XR G y' (if uS μ 57 = 0 then μ else uEx μ (uS μ 57 - 1) (uS μ 57 - 1) (uS μ 58 + 1)) X ∧ bnd y y' := by
  obtain ⟨O, r, bd, ld, K, sg, h⟩ := h
  have hl7 : rL (uR μ) ≤ 7 := hw.1.2.2.2.1.2
  have hb := hw.2.2.2.2.1
  have hh := h.rel (O' := lb9 O (yn y) [27, 47, 47, 47, 47, 47, 47] 9) lb9_lt
  obtain ⟨o0, o1, o7⟩ := lab7 (O := O) (m := yn y) (z := 9)
  generalize lb9 O (yn y) [27, 47, 47, 47, 47, 47, 47] 9 = O' at *
  obtain ⟨hS, hR, ⟨hN, hV⟩, hI, hT, hL, hW, hK, hB, hg⟩ := hh
  obtain ⟨k1, k2, k3, k4⟩ := hK
  unfold fy_B_undo
  rw [x_9 hS, obs, l_c k1, obs, l_isEmpty k1 (by omega), obs]
  by_cases h0 : uS μ 57 = 0
  · refine ⟨y, ?_, by rw [if_pos h0]; exact XR.of h, bnd.refl⟩
    simp only [if_pos h0, iI_lit, iI_add, iI_sub, iI_mul, iI_neg, obs, if_true, if_false, Int.reduceEq, Int.reduceLE, Int.reduceLT, Int.reduceAdd, Int.reduceSub, Int.reduceMul, Int.reduceNeg, Nat.reduceEqDiff, show ¬ iI 1 = iI 0 by decide]
  obtain ⟨y1, e1, f1, l1⟩ := l_remove (z := uS μ 57 - 1) k1 (by decide) (by omega) (by omega) (fun i hi => ⟨6, (k3 i (by omega) (by omega)).1, by decide⟩)
  have hKj : (((uS μ 57 - 1).toNat : Nat) : Int) = uS μ 57 - 1 := by omega
  simp only [hKj] at e1
  have hn1 : yn y1 = yn y := by have := f1.1; omega
  have S1 := hS.fr f1 rfl
  have kj := kept_fr (k3 (uS μ 57 - 1) (by omega) (by omega)) f1 rfl
  obtain ⟨y2, e2, f2, n2, v2, r2, s2, u2, oth⟩ := c_turned (G := G) S1 (hN.fr f1 rfl) (hV.fr hN f1 rfl rfl rfl) hl7 kj (by rw [hn1]; exact o0) (by rw [hn1]; exact o1)
  rw [hn1] at n2 r2 s2 u2
  have f12 : yF O' [8, 108, 23, 103, 26] 7 34 y y2 := f1.tr f2 rfl rfl (by omega) (by omega)
  have u1 := k2.fr f12 rfl rfl rfl
  have t2 : yt y2 (K (uS μ 57 - 1)) = some (.inr 6) := by rw [f2.tag kj.2.2.1]; exact kj.1
  have hkn := (k3 (uS μ 57 - 1) (by omega) (by omega)).2.2.1
  obtain ⟨y3, e3, f3, l3⟩ := l_add (v := K (uS μ 57 - 1)) hG u1 (by omega) ⟨6, t2, by decide⟩ (by omega) (fun i hi => by
    obtain ⟨p1, p2, p3, -⟩ := k3 (uS μ 57 + uS μ 58 - 1 - i) (by omega) (by omega)
    exact ⟨by omega, 6, by rw [f12.tag p3]; exact p1, by decide⟩) (by rw [n2]; exact o7) (by decide)
  have f03 : yF O' [8, 108, 23, 103, 26, 9, 109] 8 94 y y3 := f12.tr f3 rfl rfl (by omega) (by omega)
  refine ⟨y3, ?_, ?_, f03.room (by omega) (by omega)⟩
  · have S2 := S1.fr f2 rfl
    simp only [if_neg h0, iI_lit, iI_add, iI_sub, iI_mul, iI_neg, obs, if_true, if_false, Int.reduceEq, Int.reduceLE, Int.reduceLT, Int.reduceAdd, Int.reduceSub, Int.reduceMul, Int.reduceNeg, Nat.reduceEqDiff, show ¬ iI 1 = iI 0 by decide, x_10 hS, x_9 hS, l_c k1, l_size k1]
    rw [e1, obs, ck_ok kj.1, obs, x_c S1, obs, e2, obs, l_c u1, obs, e3]
    rfl
  · rw [if_neg h0]
    refine ⟨O', r, bd, ld, K, sg, hS.fr f03 rfl, hR.fr f03 rfl rfl, ⟨hN.fr f03 rfl, v2.fr ((hN.fr f1 rfl).fr f2 rfl) f3 rfl rfl rfl⟩, hI.fr hS f03 rfl, hT.fr hS f03 rfl, hL.fr hS f03 rfl, hW.fr hS f03 rfl, ?_, hB.fr hS f03 rfl, hg.fr f03 rfl⟩
    show xK G O' y3 (rL (uR μ)) (uS μ 57 - 1) (uS μ 58 + 1) (fun j => if j = uS μ 57 - 1 then uX μ else uW μ j) X K
    refine ⟨?_, ?_, ?_, fun i j i1 i2 i3 => k4 i j i1 i2 (by omega)⟩
    · have l9 := (l1.fr f2 rfl rfl rfl).fr f3 rfl rfl rfl
      refine lsY.congr l9 (fun i hi => ?_)
      rw [if_pos (by omega)]
    · refine lsY.congr l3 (fun i hi => ?_)
      by_cases hi2 : i = (uS μ 58).toNat
      · rw [if_pos hi2]
        congr 1
        omega
      · rw [if_neg hi2]
        congr 1
        omega
    · intro i i1 i2
      have key := xK_ex (K := K) (A := uS μ 57 + uS μ 58) (j := uS μ 57 - 1) (W := uW μ) (x := uX μ) (L := [9, 109]) k3 k4 (by omega) (by omega) (f12.m0 rfl) ⟨s2, u2, r2⟩ (fun i i1 i2 hij => by
        obtain ⟨p1, p2, p3, -⟩ := k3 i i1 i2
        have hne : ¬ K i = K (uS μ 57 - 1) := by
          by_cases c1 : i < uS μ 57 - 1
          · exact k4 i _ i1 c1 (by omega)
          · intro e
            exact k4 _ i (by omega) (by omega) i2 e.symm
        rw [oth (K i) hne (by omega) p2]
        exact f1.ref p3 (by rw [p2]; rfl)) f3 rfl i i1 (by omega)
      have e : (if i = uS μ 57 - 1 then uX μ else uW μ i) = (fun j => if j = uS μ 57 - 1 then uX μ else uW μ j) i := rfl
      rw [e] at key
      exact key
theorem X_redo (hG : okG G) (h : XR G y μ X) (hw : wfM μ) : ∃ y', fy_B_redo G y X = some (iI (if uS μ 58 = 0 then 0 else 1), y') ∧ XR G y' (if uS μ 58 = 0 then μ else uEx μ (uS μ 57) (uS μ 57 + 1) (uS μ 58 - 1)) X ∧ bnd y y' := by
  obtain ⟨O, r, bd, ld, K, sg, h⟩ := h
  have hl7 : rL (uR μ) ≤ 7 := hw.1.2.2.2.1.2
  have hb := hw.2.2.2.2.1
  have hh := h.rel (O' := lb9 O (yn y) [27, 47, 47, 47, 47, 47, 47] 8) lb9_lt
  obtain ⟨o0, o1, o7⟩ := lab7 (O := O) (m := yn y) (z := 8)
  generalize lb9 O (yn y) [27, 47, 47, 47, 47, 47, 47] 8 = O' at *
  obtain ⟨hS, hR, ⟨hN, hV⟩, hI, hT, hL, hW, hK, hB, hg⟩ := hh
  obtain ⟨k1, k2, k3, k4⟩ := hK
  unfold fy_B_redo
  rw [x_10 hS, obs, l_c k2, obs, l_isEmpty k2 (by omega), obs]
  by_cases h0 : uS μ 58 = 0
  · refine ⟨y, ?_, by rw [if_pos h0]; exact XR.of h, bnd.refl⟩
    simp only [if_pos h0, iI_lit, iI_add, iI_sub, iI_mul, iI_neg, obs, if_true, if_false, Int.reduceEq, Int.reduceLE, Int.reduceLT, Int.reduceAdd, Int.reduceSub, Int.reduceMul, Int.reduceNeg, Nat.reduceEqDiff, show ¬ iI 1 = iI 0 by decide]
  obtain ⟨y1, e1, f1, l1⟩ := l_remove (z := uS μ 58 - 1) k2 (by decide) (by omega) (by omega) (fun i hi => ⟨6, (k3 (uS μ 57 + uS μ 58 - 1 - i) (by omega) (by omega)).1, by decide⟩)
  have hKj : uS μ 57 + uS μ 58 - 1 - (((uS μ 58 - 1).toNat : Nat) : Int) = uS μ 57 := by omega
  simp only [hKj] at e1
  have hn1 : yn y1 = yn y := by have := f1.1; omega
  have S1 := hS.fr f1 rfl
  have kj := kept_fr (k3 (uS μ 57) (by omega) (by omega)) f1 rfl
  obtain ⟨y2, e2, f2, n2, v2, r2, s2, u2, oth⟩ := c_turned (G := G) S1 (hN.fr f1 rfl) (hV.fr hN f1 rfl rfl rfl) hl7 kj (by rw [hn1]; exact o0) (by rw [hn1]; exact o1)
  rw [hn1] at n2 r2 s2 u2
  have f12 : yF O' [9, 109, 23, 103, 26] 7 34 y y2 := f1.tr f2 rfl rfl (by omega) (by omega)
  have u1 := k1.fr f12 rfl rfl rfl
  have t2 : yt y2 (K (uS μ 57)) = some (.inr 6) := by rw [f2.tag kj.2.2.1]; exact kj.1
  have hkn := (k3 (uS μ 57) (by omega) (by omega)).2.2.1
  obtain ⟨y3, e3, f3, l3⟩ := l_add (v := K (uS μ 57)) hG u1 (by omega) ⟨6, t2, by decide⟩ (by omega) (fun i hi => by
    obtain ⟨p1, p2, p3, -⟩ := k3 i (by omega) (by omega)
    exact ⟨by omega, 6, by rw [f12.tag p3]; exact p1, by decide⟩) (by rw [n2]; exact o7) (by decide)
  have f03 : yF O' [9, 109, 23, 103, 26, 8, 108] 8 94 y y3 := f12.tr f3 rfl rfl (by omega) (by omega)
  refine ⟨y3, ?_, ?_, f03.room (by omega) (by omega)⟩
  · have S2 := S1.fr f2 rfl
    simp only [if_neg h0, iI_lit, iI_add, iI_sub, iI_mul, iI_neg, obs, if_true, if_false, Int.reduceEq, Int.reduceLE, Int.reduceLT, Int.reduceAdd, Int.reduceSub, Int.reduceMul, Int.reduceNeg, Nat.reduceEqDiff, show ¬ iI 1 = iI 0 by decide, x_10 hS, x_9 hS, l_c k2, l_size k2]
    rw [e1, obs, ck_ok kj.1, obs, x_c S1, obs, e2, obs, l_c u1, obs, e3]
    rfl
  · rw [if_neg h0]
    refine ⟨O', r, bd, ld, K, sg, hS.fr f03 rfl, hR.fr f03 rfl rfl, ⟨hN.fr f03 rfl, v2.fr ((hN.fr f1 rfl).fr f2 rfl) f3 rfl rfl rfl⟩, hI.fr hS f03 rfl, hT.fr hS f03 rfl, hL.fr hS f03 rfl, hW.fr hS f03 rfl, ?_, hB.fr hS f03 rfl, hg.fr f03 rfl⟩
    show xK G O' y3 (rL (uR μ)) (uS μ 57 + 1) (uS μ 58 - 1) (fun j => if j = uS μ 57 then uX μ else uW μ j) X K
    refine ⟨?_, ?_, ?_, fun i j i1 i2 i3 => k4 i j i1 i2 (by omega)⟩
    · refine lsY.congr l3 (fun i hi => ?_)
      by_cases hi2 : i = (uS μ 57).toNat
      · rw [if_pos hi2]
        congr 1
        omega
      · rw [if_neg hi2]
    · have l9 := (l1.fr f2 rfl rfl rfl).fr f3 rfl rfl rfl
      refine lsY.congr l9 (fun i hi => ?_)
      rw [if_pos (by omega)]
      congr 1
      omega
    · intro i i1 i2
      have key := xK_ex (K := K) (A := uS μ 57 + uS μ 58) (j := uS μ 57) (W := uW μ) (x := uX μ) (L := [8, 108]) k3 k4 (by omega) (by omega) (f12.m0 rfl) ⟨s2, u2, r2⟩ (fun i i1 i2 hij => by
        obtain ⟨p1, p2, p3, -⟩ := k3 i i1 i2
        have hne : ¬ K i = K (uS μ 57) := by
          by_cases c1 : i < uS μ 57
          · exact k4 i _ i1 c1 (by omega)
          · intro e
            exact k4 _ i (by omega) (by omega) i2 e.symm
        rw [oth (K i) hne (by omega) p2]
        exact f1.ref p3 (by rw [p2]; rfl)) f3 rfl i i1 (by omega)
      have e : (if i = uS μ 57 then uX μ else uW μ i) = (fun j => if j = uS μ 57 then uX μ else uW μ j) i := rfl
      rw [e] at key
      exact key
end E1

/-! LAYER 3, the component: what is kept ahead of acts -/
set_option maxRecDepth 100000
theorem yF.tr {O : Nat → Nat} {L1 L2 L' : List Nat} {c1 d1 c2 d2 c d : Nat} {y y1 y2 : yS} (a : yF O L1 c1 d1 y y1) (b : yF O L2 c2 d2 y1 y2) (h1 : L1.all (fun k => L'.contains k) = true) (h2 : L2.all (fun k => L'.contains k) = true) (hc : c1 + c2 ≤ c) (hd : d1 + d2 ≤ d) : yF O L' c d y y2 :=
  ((a.m0 h1).trans (b.m0 h2)).mono (List.all_eq_true.mpr (fun k hk => by simpa using hk)) hc hd
section D9a
variable {G : ai_G} {O : Nat → Nat} {L : List Nat} {c d : Nat} {y y0 y1 : yS} {a lab : Nat} {n : Int} {x : Int → Int}
theorem sR_t {k : Nat} {v : Option Nat} {b : Nat} : yt (sR y a k v) b = yt y b := rfl
theorem sR_n {k : Nat} {v : Option Nat} : yn (sR y a k v) = yn y := rfl
theorem nA_n {kd m : Nat} : yn (nA y kd m) = yn y + 1 := rfl
theorem nO_n {kd : Nat} : yn (nO y kd) = yn y + 1 := rfl
theorem nA_r {kd m : Nat} : yr (nA y kd m) = yr y := rfl
theorem stC_new {b : Nat} {v : Int32} (f : yF O L c d y0 y) (h : yn y0 ≤ a) : yF O L c d y0 (stC y a b v) :=
  ((((((f.saN (by omega)).saN (by omega)).saN (by omega)).saN (by omega)).saN (by omega)).saN (by omega)).sfN h
theorem stI_step {α : Type} {k m : Nat} {z : Int} {v : Int32} {F : yS → Option α} (hm : yn y = m) (hv : v = iI z) (h1 : 0 ≤ z) (h2 : z ≤ 100) (ht : yt y a = some (.inr 2)) (ha : a < yn y) : ((mka 0 y v).bind fun s => (wR 2 k s.2 a (some s.1)).bind F) = F (sR (nA y 0 z.toNat) a k (some m)) := by
  subst hv hm
  rw [mka_i h1 (by omega), obs, wR_ok (by rw [nA_t, if_neg (by omega)]; exact ht), obs]
def newS (y : yS) (a : Nat) : yS := sR (nA (sR (nA (sR (nA (sR (nA (sR (nA (sR (nA y 0 4) a 0 (some (yn y))) 0 4) a 1 (some (yn y + 1))) 0 4) a 2 (some (yn y + 2))) 0 4) a 3 (some (yn y + 3))) 0 4) a 4 (some (yn y + 4))) 0 7) a 5 (some (yn y + 5))
theorem c_stInit9 (ht : yt y a = some (.inr 2)) (ha : a < yn y) : fy_State_init G y a = some (newS y a) := by
  have tt : ∀ (u : yS) (z k : Nat) (v : Option Nat), yt u a = some (.inr 2) → a < yn u → yt (sR (nA u 0 z) a k v) a = some (.inr 2) ∧ a < yn (sR (nA u 0 z) a k v) := fun u z k v h1 h2 => ⟨by rw [sR_t, nA_t, if_neg (by omega)]; exact h1, by rw [sR_n, nA_n]; omega⟩
  unfold fy_State_init
  rw [stI_step (m := yn y) (v := 4) (z := 4) rfl rfl (by omega) (by omega) ht ha]
  obtain ⟨t1, n1⟩ := tt y 4 0 (some (yn y)) ht ha
  rw [show (4 : Int).toNat = 4 from rfl, stI_step (m := yn y + 1) (v := 4) (z := 4) rfl rfl (by omega) (by omega) t1 n1]
  obtain ⟨t2, n2⟩ := tt _ 4 1 (some (yn y + 1)) t1 n1
  rw [show (4 : Int).toNat = 4 from rfl, stI_step (m := yn y + 2) (v := 4) (z := 4) rfl rfl (by omega) (by omega) t2 n2]
  obtain ⟨t3, n3⟩ := tt _ 4 2 (some (yn y + 2)) t2 n2
  rw [show (4 : Int).toNat = 4 from rfl, stI_step (m := yn y + 3) (v := 4) (z := 4) rfl rfl (by omega) (by omega) t3 n3]
  obtain ⟨t4, n4⟩ := tt _ 4 3 (some (yn y + 3)) t3 n3
  rw [show (4 : Int).toNat = 4 from rfl, stI_step (m := yn y + 4) (v := 4) (z := 4) rfl rfl (by omega) (by omega) t4 n4]
  obtain ⟨t5, n5⟩ := tt _ 4 4 (some (yn y + 4)) t4 n4
  rw [show (4 : Int).toNat = 4 from rfl, stI_step (m := yn y + 5) (v := 7) (z := 7) rfl rfl (by omega) (by omega) t5 n5]
  rfl
theorem newS_fr (f : yF O L c d y0 y) (ha : yn y0 ≤ a) : yF O L (c + 6) (d + 27) y0 (newS y a) := by
  have := (((((((((((f.na (k := 0) (n := 4)).srN (a := a) (k := 0) (g := some (yn y)) ha).na (k := 0) (n := 4)).srN (a := a) (k := 1) (g := some (yn y + 1)) ha).na (k := 0) (n := 4)).srN (a := a) (k := 2) (g := some (yn y + 2)) ha).na (k := 0) (n := 4)).srN (a := a) (k := 3) (g := some (yn y + 3)) ha).na (k := 0) (n := 4)).srN (a := a) (k := 4) (g := some (yn y + 4)) ha).na (k := 0) (n := 7)).srN (a := a) (k := 5) (g := some (yn y + 5)) ha
  exact this.mono (List.all_eq_true.mpr (fun k hk => by simpa using hk)) (by omega) (by omega)
theorem newS_t {q : Nat} : yt (newS y a) q = if q = yn y + 5 then some (.inl (0, 7)) else if q = yn y + 4 then some (.inl (0, 4)) else if q = yn y + 3 then some (.inl (0, 4)) else if q = yn y + 2 then some (.inl (0, 4)) else if q = yn y + 1 then some (.inl (0, 4)) else if q = yn y then some (.inl (0, 4)) else yt y q := rfl
theorem newS_r {k : Nat} : yr (newS y a) a k = if k = 5 then some (yn y + 5) else if k = 4 then some (yn y + 4) else if k = 3 then some (yn y + 3) else if k = 2 then some (yn y + 2) else if k = 1 then some (yn y + 1) else if k = 0 then some (yn y) else yr y a k := by
  unfold newS
  simp only [sR_get, nA_r, true_and]
theorem newS_sh (ht : yt y a = some (.inr 2)) (hn : yn y = a + 1) (h0 : O a = lab) (h1 : ∀ i, 1 ≤ i → i ≤ 6 → O (a + i) = lab + 20) : shY O (newS y a) a lab := by
  have hnn : yn (newS y a) = a + 7 := by
    show yn y + 1 + 1 + 1 + 1 + 1 + 1 = _
    omega
  refine ⟨?_, by omega, h0, h1, fun k hk => ?_, fun k hk => ?_, ?_⟩
  · rw [newS_t, if_neg (by omega), if_neg (by omega), if_neg (by omega), if_neg (by omega), if_neg (by omega), if_neg (by omega)]
    exact ht
  · rw [newS_r, hn]
    match k, hk with
    | 0, _ => rfl
    | 1, _ => rfl
    | 2, _ => rfl
    | 3, _ => rfl
    | 4, _ => rfl
    | 5, _ => rfl
  · rw [newS_t]
    by_cases k5 : a + 1 + k = yn y + 5
    · omega
    · rw [if_neg k5]
      repeat' split
      all_goals first | rfl | (exfalso; omega)
  · rw [newS_t, if_pos (by omega)]
theorem c_copy {b lb : Nat} (hb : shY O y b lb) (hv : vlY y n b x) (hn : n ≤ 7) (h0 : O (yn y) = lab) (h1 : ∀ i, 1 ≤ i → i ≤ 6 → O (yn y + i) = lab + 20) (hlb : ¬ lb = 5) : ∃ y', fy_B_copy G y b = some (yn y, y') ∧ yF O [] 7 34 y y' ∧ shY O y' (yn y) lab ∧ vlY y' n (yn y) x := by
  have t0 : yt (nO y 2) (yn y) = some (.inr 2) := by rw [nO_t, if_pos rfl]
  have f0 : yF O [] 7 34 y (newS (nO y 2) (yn y)) := (newS_fr (L := []) (yF.refl.no (k := 2)) (Nat.le_refl _)).mono (L' := []) rfl (by omega) (by decide)
  have s0 := newS_sh (O := O) (lab := lab) t0 nO_n h0 h1
  have hb1 := hb.fr f0 rfl
  have hv1 := hv.fr hb f0 rfl rfl (Bool.eq_false_iff.mpr (fun z => hlb (Nat.eq_of_beq_eq_true z)))
  have hbn := hb.2.1
  obtain ⟨e1, e2⟩ := c_stOfE (G := G) s0 hb1 hv1 (by omega) hn
  refine ⟨stC (newS (nO y 2) (yn y)) (yn y) b (iI (x 27)), ?_, stC_new f0 (Nat.le_refl _), s0.t rfl rfl rfl, e2⟩
  unfold fy_B_copy mk
  rw [obs, c_stInit9 t0 (by rw [nO_n]; omega), obs, s_c s0, obs, e1, obs]
end D9a
/-- labels of new cells -/
def lb9 (O : Nat → Nat) (m : Nat) (N : List Nat) (z : Nat) : Nat → Nat := fun q => if q < m then O q else N.getD (q - m) z
theorem lb9_lt {O : Nat → Nat} {m : Nat} {N : List Nat} {z : Nat} : ∀ q, q < m → lb9 O m N z q = O q := fun _ h => if_pos h
theorem lb9_ge {O : Nat → Nat} {m : Nat} {N : List Nat} {z k : Nat} : lb9 O m N z (m + k) = N.getD k z := by
  unfold lb9
  rw [if_neg (by omega), Nat.add_sub_cancel_left]
section D9
variable {G : ai_G} {O : Nat → Nat} {y : yS} {μ : Mu} {X r : Nat} {bd ld : Nat → Nat} {K : Int → Nat} {sg : Nat → Nat}
theorem kept_fr {L : List Nat} {c d : Nat} {y1 : yS} {k : Nat} {n : Int} {w : Int → Int} (h : yt y k = some (.inr 6) ∧ O k = 26 ∧ k < yn y ∧ ∃ q, yr y k 0 = some q ∧ shY O y q 27 ∧ vlY y n q w) (f : yF O L c d y y1) (hL : L.all (fun k => !([26, 27, 127, 47].contains k)) = true) : yt y1 k = some (.inr 6) ∧ O k = 26 ∧ k < yn y1 ∧ ∃ q, yr y1 k 0 = some q ∧ shY O y1 q 27 ∧ vlY y1 n q w := by
  obtain ⟨g1, g2, g3, q, g4, g5, g6⟩ := h
  have hn := f.nx
  exact ⟨by rw [f.tag g3]; exact g1, g2, by omega, q, by rw [f.ref g3 (by rw [g2]; exact off_all hL rfl)]; exact g4, g5.fr f (off_all hL rfl), g6.fr g5 f (off_all hL rfl) (off_all hL rfl) rfl⟩
theorem c_keepAct (hG : okG G) (h : XQ G O y μ X r bd ld K sg) (hw : wfM μ) : ∃ y' O' K', fy_B_keepAct G y X = some y' ∧ XQ G O' y' (uAct μ) X r bd ld K' sg ∧ yF O' [8, 108, 9, 109] 9 95 y y' := by
  have hl7 : rL (uR μ) ≤ 7 := hw.1.2.2.2.1.2
  have hb := hw.2.2.2.2.1
  have hh := h.rel (O' := lb9 O (yn y) [26, 27, 47, 47, 47, 47, 47, 47] 8) lb9_lt
  have o0 : lb9 O (yn y) [26, 27, 47, 47, 47, 47, 47, 47] 8 (yn y) = 26 := lb9_ge (k := 0)
  have o1 : lb9 O (yn y) [26, 27, 47, 47, 47, 47, 47, 47] 8 (yn y + 1) = 27 := lb9_ge (k := 1)
  have o2 : ∀ i, 1 ≤ i → i ≤ 6 → lb9 O (yn y) [26, 27, 47, 47, 47, 47, 47, 47] 8 (yn y + 1 + i) = 27 + 20 := by
    intro i i1 i2
    rw [Nat.add_assoc, lb9_ge]
    match i, i1, i2 with
    | 1, _, _ => rfl
    | 2, _, _ => rfl
    | 3, _, _ => rfl
    | 4, _, _ => rfl
    | 5, _, _ => rfl
    | 6, _, _ => rfl
  have o8 : lb9 O (yn y) [26, 27, 47, 47, 47, 47, 47, 47] 8 (yn y + 8) = 8 := lb9_ge (k := 8)
  generalize lb9 O (yn y) [26, 27, 47, 47, 47, 47, 47, 47] 8 = O' at *
  obtain ⟨hS, hR, ⟨hN, hV⟩, hI, hT, hL, hW, hK, hB, hg⟩ := hh
  obtain ⟨k1, k2, k3, k4⟩ := hK
  -- the oldest goes
  have stage1 : ∃ (y1 : yS) (a1 : Int) (K1 : Int → Nat) (W1 : Int → Int → Int), fy_B_keepAct G y X = fy_B_keepAct_j21 G y1 X ∧ yF O' [8, 108] 0 0 y y1 ∧ lsY G O' y1 (X + 24) 8 a1 (fun i => K1 i) ∧ a1 = (if uS μ 57 = 40 then 39 else uS μ 57) ∧ (∀ i, 0 ≤ i → i < a1 → yt y (K1 i) = some (.inr 6) ∧ O' (K1 i) = 26 ∧ K1 i < yn y ∧ ∃ q, yr y (K1 i) 0 = some q ∧ shY O' y q 27 ∧ vlY y (rL (uR μ)) q (W1 i)) ∧ (∀ i j, 0 ≤ i → i < j → j < a1 → ¬ K1 i = K1 j) ∧ (∀ k, (if uS μ 57 = 40 then (if k = 39 then uX μ else uW μ (k + 1)) else (if k = uS μ 57 then uX μ else uW μ k)) = (if k = a1 then uX μ else W1 k)) := by
    unfold fy_B_keepAct
    rw [x_9 hS, obs, l_c k1, obs, l_size k1, obs, show (40 : Int32) = iI 40 from rfl]
    simp (disch := omega) only [iI_eq]
    by_cases h40 : uS μ 57 = 40
    · obtain ⟨y1, e1, f1, g1⟩ := l_remove (z := 0) k1 (by decide) (by omega) (by omega) (fun i hi => ⟨6, (k3 i (by omega) (by omega)).1, by decide⟩)
      refine ⟨y1, 39, fun i => K (i + 1), fun i => uW μ (i + 1), ?_, f1, ?_, by rw [if_pos h40], fun i i1 i2 => k3 (i + 1) (by omega) (by omega), fun i j i1 i2 i3 => k4 (i + 1) (j + 1) (by omega) (by omega) (by omega), fun k => by rw [if_pos h40]⟩
      · rw [if_pos h40]
        simp only [x_9 hS, obs, l_c k1]
        rw [show (0 : Int32) = iI 0 from rfl, e1]
        rfl
      · rw [h40] at g1
        refine lsY.congr g1 (fun i hi => ?_)
        rw [if_neg (by omega)]
        congr 1
    · exact ⟨y, uS μ 57, K, uW μ, by rw [if_neg h40], yF.refl, k1, by rw [if_neg h40], fun i i1 i2 => k3 i i1 (by omega), fun i j i1 i2 i3 => k4 i j i1 i2 (by omega), fun k => by rw [if_neg h40]⟩
  obtain ⟨y1, a1, K1, W1, e1, f1, l1, ha1, kf, ki, hW1⟩ := stage1
  have hn1 : yn y1 = yn y := by have := f1.1; omega
  have ha2 : 0 ≤ a1 ∧ a1 ≤ 39 := by rw [ha1]; split <;> omega
  have f2 : yF O' [8, 108] 1 1 y (nO y1 6) := f1.no (k := 6)
  have hN2 := hN.fr f2 rfl
  have hV2 := hV.fr hN f2 rfl rfl rfl
  have n2 : yn (nO y1 6) = yn y + 1 := by rw [nO_n, hn1]
  obtain ⟨y3, e3, f3, s3, v3⟩ := c_copy (G := G) (lab := 27) hN2 hV2 hl7 (by rw [n2]; exact o1) (by rw [n2]; exact o2) (by decide)
  rw [n2] at e3 s3 v3
  have hn3 : yn y3 = yn y + 8 := by
    have h9 := f3.1
    have h8 := s3.2.1
    rw [n2] at h9
    omega
  have t3 : yt y3 (yn y) = some (.inr 6) := by rw [f3.tag (by rw [n2]; omega), nO_t, if_pos hn1.symm]
  have f13 : yF O' [] 8 35 y1 y3 := (((yF.refl (O := O') (L := []) (y := y1)).no (k := 6)).trans f3).mono rfl (by omega) (by decide)
  have f14 : yF O' [] 8 35 y1 (sR y3 (yn y) 0 (some (yn y + 1))) := f13.srN (by omega)
  have l4 := l1.fr f14 rfl rfl rfl
  have t4 : yt (sR y3 (yn y) 0 (some (yn y + 1))) (yn y) = some (.inr 6) := t3
  have n4 : yn (sR y3 (yn y) 0 (some (yn y + 1))) = yn y + 8 := hn3
  obtain ⟨y5, e5, f5, l5⟩ := l_add (v := yn y) hG l4 (by omega) ⟨6, t4, by decide⟩ (by omega) (fun i hi => by
    obtain ⟨q1, q2, q3, -⟩ := kf i (by omega) (by omega)
    exact ⟨by rw [n4]; omega, 6, by rw [f14.tag (by omega), f1.tag q3]; exact q1, by decide⟩) (by rw [n4]; exact o8) (by decide)
  have f04 : yF O' [8, 108] 8 35 y (sR y3 (yn y) 0 (some (yn y + 1))) := f1.tr f14 rfl rfl (by omega) (by omega)
  have f05 : yF O' [8, 108] 9 95 y y5 := f04.tr f5 rfl rfl (by omega) (by omega)
  have u5 := k2.fr f05 rfl rfl rfl
  obtain ⟨y6, e6, f6, l6⟩ := l_clear u5 (by decide) (by omega)
  have f06 : yF O' [8, 108, 9, 109] 9 95 y y6 := f05.tr f6 rfl rfl (by omega) (by omega)
  have f46 : yF O' [8, 108, 9, 109] 1 60 (sR y3 (yn y) 0 (some (yn y + 1))) y6 := f5.tr f6 rfl rfl (by omega) (by omega)
  have hS2 := hS.fr f2 rfl
  have hS4 := hS.fr f04 rfl
  have hS5 := hS.fr f05 rfl
  refine ⟨y6, O', fun i => if i = a1 then yn y else K1 i, ?_, ?_, f06⟩
  · rw [e1]
    unfold fy_B_keepAct_j21
    have hS1 := hS.fr f1 rfl
    rw [x_9 hS1, obs]
    unfold mk
    rw [obs, x_1 hS2, obs, e3, obs]
    unfold fy_Kept_init
    simp only [hn1]
    rw [wR_ok t3, obs, obs, l_c l4, obs, e5, obs, x_10 hS5, obs, l_c u5, obs, e6]
    rfl
  · refine ⟨hS.fr f06 rfl, hR.fr f06 rfl rfl, ⟨hN.fr f06 rfl, hV.fr hN f06 rfl rfl rfl⟩, hI.fr hS f06 rfl, hT.fr hS f06 rfl, hL.fr hS f06 rfl, hW.fr hS f06 rfl, ?_, hB.fr hS f06 rfl, hg.fr f06 rfl⟩
    have eA : (if uS μ 57 = 40 then 40 else uS μ 57 + 1) = a1 + 1 := by rw [ha1]; split <;> omega
    show xK G O' y6 (rL (uR μ)) (if uS μ 57 = 40 then 40 else uS μ 57 + 1) 0 (fun k => if uS μ 57 = 40 then (if k = 39 then uX μ else uW μ (k + 1)) else (if k = uS μ 57 then uX μ else uW μ k)) X (fun i => if i = a1 then yn y else K1 i)
    rw [eA]
    have eW : (fun k => if uS μ 57 = 40 then (if k = 39 then uX μ else uW μ (k + 1)) else (if k = uS μ 57 then uX μ else uW μ k)) = fun k => if k = a1 then uX μ else W1 k := funext hW1
    rw [eW]
    refine ⟨?_, l6 _, fun i i1 i2 => ?_, fun i j i1 i2 i3 => ?_⟩
    · refine lsY.congr (l5.fr f6 rfl rfl rfl) (fun i hi => ?_)
      show (if (i : Int) = a1 then yn y else K1 i) = _
      by_cases hia : (i : Int) = a1
      · rw [if_pos hia, if_pos (by omega)]
      · rw [if_neg hia, if_neg (by omega)]
    · by_cases hia : i = a1
      · simp only [if_pos hia]
        have s4 : shY O' (sR y3 (yn y) 0 (some (yn y + 1))) (yn y + 1) 27 := by
          refine s3.fr (L := [26]) (c := 0) (d := 0) (yF.refl.sr (by rw [o0]; rfl)) rfl
        refine kept_fr (y := sR y3 (yn y) 0 (some (yn y + 1))) ⟨t4, o0, by omega, yn y + 1, by rw [sR_get, if_pos ⟨rfl, rfl⟩], s4, v3⟩ f46 rfl
      · simp only [if_neg hia]
        exact kept_fr (kf i i1 (by omega)) f06 rfl
    · by_cases hj : j = a1
      · simp only [if_pos hj, if_neg (show ¬ i = a1 by omega)]
        have := (kf i i1 (by omega)).2.2.1
        omega
      · simp only [if_neg hj, if_neg (show ¬ i = a1 by omega)]
        exact ki i j i1 i2 (by omega)
end D9

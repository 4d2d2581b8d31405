/-! LAYER 3: a new river, the component -/
set_option maxRecDepth 100000
/-- how it lies at the start -/
def begM (ρ : Rv) (dz : Int) : Int → Int := fun z => if z < 4 then (if z < rB ρ then rBA ρ z else 0) else if z < 20 then 0 else if z < 20 + rL ρ then -1 else if z = 27 then dz else 0
def uBeg (μ : Mu) (dz : Int) : Mu := (uR μ, begM (uR μ) dz, upN (upN (upN (upN (uS μ) 57 0) 58 0) 75 0) 61 0, uW μ, uB μ, upR (uA μ) 43 (fun _ => 0))
/-- the object ahead of the start -/
def XP (G : ai_G) (O : Nat → Nat) (y : yS) (μ : Mu) (X r : Nat) (bd ld : Nat → Nat) : Prop :=
  xS O y X r ∧ rivY G O y (uR μ) r bd ld ∧ shY O y (X + 8) 3 ∧ (yf y X 5 = iI (uS μ 1) ∧ yf y X 6 = iI (uS μ 76) ∧ yf y X 7 = iI (uS μ 2) ∧ yf y X 8 = iI (uS μ 3)) ∧ xT y μ X ∧ xW y X ∧ (∃ n e, lsY G O y (X + 24) 8 n e ∧ n ≤ 100) ∧ (∃ n e, lsY G O y (X + 25) 9 n e ∧ n ≤ 100) ∧ (∃ n e, lsY G O y (X + 34) 18 n e ∧ n ≤ 100)
section K0
variable {G : ai_G} {O : Nat → Nat} {y : yS} {μ : Mu} {ρ : Rv} {X r : Nat} {bd ld : Nat → Nat}
theorem begM_X (hw : wfR ρ) (dz : Int) {a : Nat} (h : vlY y 7 a (begX ρ dz)) : vlY y (rL ρ) a (begM ρ dz) := by
  have hl := hw.2.2.2.1
  have e : ∀ z : Int, z < 20 → begM ρ dz z = begX ρ dz z := fun z hz => by
    unfold begM begX
    by_cases c : z < 4
    · rw [if_pos c, if_pos c]
    · rw [if_neg c, if_neg c, if_pos hz, if_pos hz]
  refine ⟨fun b b1 b2 => ?_, fun l l1 l2 => ?_, ?_⟩
  · rw [e b (by omega), e (4 + b) (by omega), e (8 + b) (by omega), e (12 + b) (by omega), e (16 + b) (by omega)]
    exact h.1 b b1 b2
  · rw [h.2.1 l l1 (by omega)]
    unfold begM begX
    rw [if_neg (by omega), if_neg (by omega), if_pos (by omega), if_neg (by omega), if_neg (by omega), if_pos (by omega)]
  · rw [h.2.2]
    unfold begM begX
    rw [if_neg (by omega), if_neg (by omega), if_neg (by omega), if_neg (by omega), if_neg (by omega), if_neg (by omega), if_pos rfl]
theorem begM_wf (hw : wfR ρ) {dz : Int} (hd : 0 ≤ dz ∧ dz < 1000) : wfS ρ (begM ρ dz) := by
  have hl := hw.2.2.2.1
  have hB := hw.2.2.1
  have h := begX_wf hw hd
  have e : ∀ z : Int, z < 20 → begM ρ dz z = begX ρ dz z := fun z hz => by
    unfold begM begX
    by_cases c : z < 4
    · rw [if_pos c, if_pos c]
    · rw [if_neg c, if_neg c, if_pos hz, if_pos hz]
  refine ⟨fun b b1 b2 => ?_, fun l l1 l2 => ?_, ?_⟩
  · rw [e b (by omega), e (4 + b) (by omega), e (8 + b) (by omega), e (12 + b) (by omega)]
    exact h.1 b b1 b2
  · unfold begM
    rw [if_neg (by omega), if_neg (by omega), if_pos (by omega)]
    omega
  · unfold begM
    rw [if_neg (by omega), if_neg (by omega), if_neg (by omega), if_pos rfl]
    exact hd
theorem c_start (h : XP G O y μ X r bd ld) (hw : wfR (uR μ)) (K : Int → Nat) (sg : Nat → Nat) : ∃ y' dz, fy_B_start G y X = some y' ∧ (0 ≤ dz ∧ dz < 1000) ∧ gI 1 15 y r = some (iI dz) ∧ XQ G O y' (uBeg μ dz) X r bd ld K sg ∧ yF O [23, 103, 8, 108, 9, 109, 18, 118, 213, 25] 0 0 y y' := by
  obtain ⟨hS, hR, hN, hI, hT, hW, ⟨n1, e1, k1, m1⟩, ⟨n2, e2, k2, m2⟩, ⟨n3, e3, k3, m3⟩⟩ := h
  obtain ⟨y1, dz, a1, f1, v1, hdz, gdz⟩ := c_begin hR hw hN (Or.inl rfl)
  have f01 : yF O [23, 103, 8, 108, 9, 109, 18, 118, 213, 25] 0 0 y y1 := f1.mono rfl (by omega) (by omega)
  have S1 := hS.fr f01 rfl
  obtain ⟨y2, a2, f2, c2⟩ := l_clear (k1.fr f1 rfl rfl rfl) (by decide) m1
  have f02 : yF O [23, 103, 8, 108, 9, 109, 18, 118, 213, 25] 0 0 y y2 := f01.t0 (f2.mono rfl (by omega) (by omega))
  have S2 := hS.fr f02 rfl
  obtain ⟨y3, a3, f3, c3⟩ := l_clear ((k2.fr f1 rfl rfl rfl).fr f2 rfl rfl rfl) (by decide) m2
  have f03 : yF O [23, 103, 8, 108, 9, 109, 18, 118, 213, 25] 0 0 y y3 := f02.t0 (f3.mono rfl (by omega) (by omega))
  have S3 := hS.fr f03 rfl
  obtain ⟨y4, a4, f4, c4⟩ := l_clear (((k3.fr f1 rfl rfl rfl).fr f2 rfl rfl rfl).fr f3 rfl rfl rfl) (by decide) m3
  have f04 : yF O [23, 103, 8, 108, 9, 109, 18, 118, 213, 25] 0 0 y y4 := f03.t0 (f4.mono rfl (by omega) (by omega))
  have S4 := hS.fr f04 rfl
  have f5 : yF O [213, 25] 0 0 y4 (sF y4 X 13 (iI 0)) := yF.refl.sf (by rw [x_lb hS]; rfl)
  have l1 : ∃ q, lp (fy_B_start_b39 G X) (iI 0, sF y4 X 13 (iI 0)) = some q ∧ (yF O [213, 25] 0 0 y4 q ∧ yf q X 13 = iI 0 ∧ ∀ j : Nat, j < 3 → yr q (X + 39 + j) 0 = none) := by
    refine lp_inv (fun i q => q.1 = iI i ∧ yF O [213, 25] 0 0 y4 q.2 ∧ yf q.2 X 13 = iI 0 ∧ ∀ j : Nat, j < i → yr q.2 (X + 39 + j) 0 = none) 3 ?_ ?_ ⟨rfl, f5, by rw [sF_get, if_pos ⟨rfl, rfl⟩], fun j hj => by omega⟩
    · rintro i ⟨j, u⟩ hi ⟨g1, g2, g3, g4⟩
      simp only at g1 g2 g3 g4
      subst g1
      have Su := S4.fr g2 rfl
      obtain ⟨b1, b2, b3⟩ := x_box (G := G) Su (k := i) (by omega) (by omega)
      rw [Int.toNat_natCast] at b1 b2 b3
      left
      refine ⟨(iI ((i : Int) + 1), sR u (X + 39 + i) 0 none), ?_, rfl, g2.sr (by rw [b3]; rfl), g3, fun j hj => ?_⟩
      · simp (disch := omega) only [fy_B_start_b39, iI_lit, iI_add, iI_sub, iI_mul, iI_neg, obs, if_true, if_false, Int.reduceEq, Int.reduceLE, Int.reduceLT, Int.reduceAdd, Int.reduceSub, Int.reduceMul, Int.reduceNeg, Nat.reduceEqDiff, iI_le, iI_lt, iI_eq, x_28 Su, b1]
        rw [if_neg (by omega), wR_ok b2, obs]
      · rw [sR_get]
        by_cases c : j = i
        · rw [if_pos ⟨by rw [c], rfl⟩]
        · rw [if_neg (by omega)]
          exact g4 j (by omega)
    · rintro ⟨j, u⟩ ⟨g1, g2, g3, g4⟩
      simp only at g1 g2 g3 g4
      subst g1
      refine ⟨u, ?_, g2, g3, g4⟩
      simp (disch := omega) only [fy_B_start_b39, iI_lit, iI_add, iI_sub, iI_mul, iI_neg, obs, if_true, if_false, Int.reduceEq, Int.reduceLE, Int.reduceLT, Int.reduceAdd, Int.reduceSub, Int.reduceMul, Int.reduceNeg, Nat.reduceEqDiff, iI_le, iI_lt, iI_eq]
      rw [if_pos (by omega)]
  obtain ⟨y5, a5, f6, z13, zb⟩ := l1
  have f05 : yF O [23, 103, 8, 108, 9, 109, 18, 118, 213, 25] 0 0 y y5 := f04.t0 (f6.mono rfl (by omega) (by omega))
  refine ⟨y5, dz, ?_, hdz, gdz, ?_, f05⟩
  · unfold fy_B_start
    rw [x_1 hS, obs, x_0 hS, obs, s_c hN, obs, a1, obs, x_9 S1, obs, l_c (k1.fr f1 rfl rfl rfl), obs, a2, obs, x_10 S2, obs, l_c ((k2.fr f1 rfl rfl rfl).fr f2 rfl rfl rfl), obs, a3, obs, x_23 S3, obs, l_c (((k3.fr f1 rfl rfl rfl).fr f2 rfl rfl rfl).fr f3 rfl rfl rfl), obs, a4, obs, show (0 : Int32) = iI 0 from rfl, x_wI S4 rfl, obs, a5, obs]
  · have hNv := (((v1.fr (hN.fr f1 rfl) f2 rfl rfl rfl).fr ((hN.fr f1 rfl).fr f2 rfl) f3 rfl rfl rfl).fr (((hN.fr f1 rfl).fr f2 rfl).fr f3 rfl) f4 rfl rfl rfl).fr ((((hN.fr f1 rfl).fr f2 rfl).fr f3 rfl).fr f4 rfl) f6 rfl rfl rfl
    refine ⟨hS.fr f05 rfl, hR.fr f05 rfl rfl, ⟨hN.fr f05 rfl, begM_X hw dz hNv⟩, ⟨(x_f0 hS f05 5 rfl).trans hI.1, (x_f0 hS f05 6 rfl).trans hI.2.1, (x_f0 hS f05 7 rfl).trans hI.2.2.1, (x_f0 hS f05 8 rfl).trans hI.2.2.2, z13⟩, ?_, fun z z1 z2 => ?_, hW.fr hS f05 rfl, ⟨?_, ?_, fun i i1 i2 => ?_, fun i j i1 i2 i3 => ?_⟩, fun i hi => Or.inl ⟨rfl, zb i hi⟩, ⟨?_, fun i i1 => ?_, fun i j i1 i2 => ?_⟩⟩
    · exact hT.fr hS f05 rfl
    · replace z2 : z < 0 := z2
      omega
    · exact (((c2 _).fr f3 rfl rfl rfl).fr f4 rfl rfl rfl).fr f6 rfl rfl rfl
    · exact ((c3 _).fr f4 rfl rfl rfl).fr f6 rfl rfl rfl
    · replace i2 : i < 0 + 0 := i2
      omega
    · replace i3 : j < 0 + 0 := i3
      omega
    · exact (c4 _).fr f6 rfl rfl rfl
    · replace i1 : (i : Int) < 0 := i1
      omega
    · replace i2 : (j : Int) < 0 := i2
      omega
end K0

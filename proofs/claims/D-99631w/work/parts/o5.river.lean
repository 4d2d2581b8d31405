/-! LAYER 3, the river: the operation, both sides -/
set_option maxRecDepth 100000
section O5
variable {G : ai_G} {X : Nat} {y : yS} {s : mS}
/-- labels but those of the old river are kept -/
theorem lsY.lab2 {O O' : Nat → Nat} {l lab : Nat} {m : Int} {els : Nat → Nat} (h : lsY G O y l lab m els) (e : ∀ q, q < yn y → ¬ O q = 1 → ¬ O q = 2 → O' q = O q) (h1 : Nat.beq lab 1 = false) (h2 : Nat.beq lab 2 = false) : lsY G O' y l lab m els := by
  have n1 := Nat.ne_of_beq_eq_false h1
  have n2 := Nat.ne_of_beq_eq_false h2
  obtain ⟨⟨a1, a2, a3, a4⟩, a5, q, b1, b2, b3, b4⟩ := h
  refine ⟨⟨a1, (e _ a3 (by omega) (by omega)).trans a2, a3, a4⟩, a5, q, b1, b2, b3, ?_⟩
  rcases b4 with z | ⟨cap, z1, z2, z3, z4⟩
  · exact Or.inl z
  · exact Or.inr ⟨cap, z1, z2, z3, (e _ b2 (by omega) (by omega)).trans z4⟩
theorem P_river (hG : okW G) (hg : okG G) (ho : oldY G y) (h : PR G X y s) : ∃ v y' s', fy_B_river G y X = some (v, y') ∧ fm_river s = some (v, s') ∧ PR G X y' s' ∧ bnd y y' := by
  obtain ⟨μ, ⟨O, r0, bd0, ld0, K, sg, hX⟩, hm, hw⟩ := h
  have hS := hX.1
  have hI := hX.2.2.2.1
  have tX := hS.1.1
  have lX := hS.1.2.1
  have oX : O X = 5 := hS.2.1 0 (by omega) (Or.inl rfl)
  have oF : O (X + 23) = 7 := hS.2.1 23 (by omega) (Or.inr (by omega))
  have tA : yt y (X + 22) = some (.inl (2, 1600)) := hS.2.2.2.1 (22, .inl (2, 1600)) (by simp [tagO])
  have tF : yt y (X + 23) = some (.inr 3) := hS.2.2.2.1 (23, .inr 3) (by simp [tagO])
  have hT : txO (uA μ 1) (uS μ 1) := ⟨hw.2.2.1, hw.2.2.2.1⟩
  -- the numbers are set anew
  have f0 : yF O [205, 207, 208] 0 0 y (sF (sF (sF y X 5 (iI 0)) X 7 (iI 0)) X 8 (iI (-1))) := ((yF.refl.sf (by rw [x_lb hS]; rfl)).sf (by rw [x_lb hS]; rfl)).sf (by rw [x_lb hS]; rfl)
  have e5 : yf (sF (sF (sF y X 5 (iI 0)) X 7 (iI 0)) X 8 (iI (-1))) X 5 = iI 0 := by rw [sF_get, if_neg (by omega), sF_get, if_neg (by omega), sF_get, if_pos ⟨rfl, rfl⟩]
  have e7 : yf (sF (sF (sF y X 5 (iI 0)) X 7 (iI 0)) X 8 (iI (-1))) X 7 = iI 0 := by rw [sF_get, if_neg (by omega), sF_get, if_pos ⟨rfl, rfl⟩]
  have e8 : yf (sF (sF (sF y X 5 (iI 0)) X 7 (iI 0)) X 8 (iI (-1))) X 8 = iI (-1) := by rw [sF_get, if_pos ⟨rfl, rfl⟩]
  have n0 : yn (sF (sF (sF y X 5 (iI 0)) X 7 (iI 0)) X 8 (iI (-1))) = yn y := rfl
  have u0 : yu (sF (sF (sF y X 5 (iI 0)) X 7 (iI 0)) X 8 (iI (-1))) = yu y := rfl
  have t0 : yt (sF (sF (sF y X 5 (iI 0)) X 7 (iI 0)) X 8 (iI (-1))) = yt y := rfl
  have w5 : wI 0 5 y X 0 = some (sF y X 5 (iI 0)) := wI_ok tX
  have w7 : wI 0 7 (sF y X 5 (iI 0)) X 0 = some (sF (sF y X 5 (iI 0)) X 7 (iI 0)) := wI_ok tX
  have w8 : wI 0 8 (sF (sF y X 5 (iI 0)) X 7 (iI 0)) X (-1) = some (sF (sF (sF y X 5 (iI 0)) X 7 (iI 0)) X 8 (iI (-1))) := wI_ok tX
  have hX0 := hX.ints f0 rfl e5 e7 e8
  generalize hy0 : sF (sF (sF y X 5 (iI 0)) X 7 (iI 0)) X 8 (iI (-1)) = y0 at *
  have hS0 := hX0.1
  have ho0 : oldY G y0 := fun a cc hc => by rw [t0, n0]; exact ho a cc hc
  obtain ⟨y1, er, eck, hread⟩ := R_all (T := uA μ 1) (n := uS μ 1) (A := X + 22) (F := X + 23) (y := y0) (s := s) hT hG hg ho0 (by omega) (by omega) (by rw [t0]; exact tA) hX0.2.2.2.2.1 (by rw [t0]; exact tF) hm.2.2.1.1 hm.2.2.2.1
  have f8 : yF O [] 1 11 y0 (nO y0 8) := yF.refl.no (k := 8)
  have hS8 := hS0.fr f8 rfl
  have eC : fy_B_river G y X = (fy_Reader_read G y1 (yn y0)).bind fun p37 => Sum.elim (fun q37 =>
    (gI 3 0 p37.2 q37).bind fun x49 =>
    (wI 0 7 p37.2 X x49).bind fun s52 =>
    (gI 3 1 s52 q37).bind fun x57 =>
    (wI 0 8 s52 X x57).bind fun s60 =>
    some ((-1), s60)) (fun v37 =>
    (wR 0 0 p37.2 X (some v37)).bind fun s40 =>
    (ck 0 s40 X).bind fun _ =>
    (fy_B_start G s40 X).bind fun p66 =>
    (ck 0 p66 X).bind fun _ =>
    (fy_B_boards G p66 X).bind fun p70 =>
    some (p70, p66)) p37.1 := by
    unfold fy_B_river
    rw [gI_ok tX, obs, w5, obs, w7, obs, w8, obs, hI.1]
    unfold mk
    rw [obs]
    simp only
    rw [x_3 hS8, obs, x_4 hS8, obs, er, obs, eck, obs]
  have hXF : ¬ X = X + 23 := by omega
  rcases hread with ⟨y', s', k, p, c1, c2, c3, c4, ⟨c5, c6, c7⟩, kp, fs⟩ | ⟨O3, y', s', τ, ν, bd, le, c1, c2, hZ, c7, kp, fs⟩
  · -- a fault
    have f1 : yF O [107] 1608 32208 y0 y' := kp.yF (Nat.le_refl _) oF
    have h1 := hX0.fr f1 rfl
    have tX1 := h1.1.1.1
    have tF1 : yt y' (X + 23) = some (.inr 3) := h1.1.2.2.2.1 (23, .inr 3) (by simp [tagO])
    have f2 : yF O [205, 207, 208] 0 0 y' (sF (sF y' X 7 (iI k)) X 8 (iI p)) := (yF.refl.sf (by rw [x_lb h1.1]; rfl)).sf (by rw [x_lb h1.1]; rfl)
    have g5 : yf (sF (sF y' X 7 (iI k)) X 8 (iI p)) X 5 = iI 0 := by rw [sF_get, if_neg (by omega), sF_get, if_neg (by omega)]; exact h1.2.2.2.1.1
    have h2 := h1.ints f2 rfl g5 (by rw [sF_get, if_neg (by omega), sF_get, if_pos ⟨rfl, rfl⟩]) (by rw [sF_get, if_pos ⟨rfl, rfl⟩])
    have ee : uFlt (uFlt μ 0 0 (-1)) 0 k p = uFlt μ 0 k p := by
      unfold uFlt
      refine congrArg (fun q => (uR μ, uX μ, q, uW μ, uB μ, uA μ)) ?_
      funext j
      show upN (upN (upN (upN (upN (upN (uS μ) 1 0) 2 0) 3 (-1)) 1 0) 2 k) 3 p j = upN (upN (upN (uS μ) 1 0) 2 k) 3 p j
      unfold upN
      repeat' split
      all_goals first | rfl | omega
    rw [ee] at h2
    refine ⟨-1, _, s', ?_, ?_, ⟨uFlt μ 0 k p, XR.of h2, MR_flt hm fs c7 c5 c6, ?_⟩, ?_⟩
    · rw [eC, c1, obs]
      simp only [Sum.elim_inl]
      rw [gI_ok tF1, obs, c4.1, wI_ok tX1, obs, gI_ok (show yt (sF y' X 7 (iI k)) (X + 23) = some (.inr 3) from tF1), obs, sF_get, if_neg (fun z => hXF z.1.symm), c4.2, wI_ok (show yt (sF y' X 7 (iI k)) X = some (.inr 0) from tX1), obs]
    · unfold fm_river
      rw [c2, obs, if_neg]
      rw [c5, i0, iI_le (by omega) (by omega) (by omega) (by omega)]
      omega
    · obtain ⟨a1, a2, a3, a4, a5, a6⟩ := hw
      exact ⟨a1, a2, ⟨(by decide : (0 : Int) ≤ 0), (by decide : (0 : Int) ≤ 1600)⟩, a4, a5, a6⟩
    · have k1 := kp.1
      refine ⟨?_, ?_, ?_, fun a ha => ?_⟩
      · show yn y ≤ yn y'
        omega
      · show yn y' ≤ yn y + 5000
        omega
      · show yu y' ≤ yu y + 50000
        omega
      · show yt y' a = yt y a
        rw [f1.tag (by omega), t0]
  · -- a river is read
    have hL3 := hZ.2.1
    have hC3 := hZ.2.2.2.1
    have hwl := hZ.2.2.2.2.2.2
    have hM3 := hZ.2.2.2.2.2.1
    have hwR := rvL_wf hwl
    have o3 : ∀ a, a < yn y0 → O3 a = 50 ∨ O3 a = 57 := fun a ha => by
      rw [hL3.2.2.2.2.2.2.1 a ha]
      split
      · exact Or.inr rfl
      · exact Or.inl rfl
    have eE : ∀ q, q < yn y0 → ¬ O q = 1 → ¬ O q = 2 → labE O O3 q = O q := fun q h1 h2 h3 => by
      unfold labE
      rw [if_pos (o3 q h1), if_neg (by omega)]
    have eN1 : ∀ a k, k ∈ [5, 34, 35, 36, 37, 38, 1] → O3 a = k → labE O O3 a = 1 := fun a k hk e => by
      unfold labE
      simp only [List.mem_cons, List.not_mem_nil, or_false] at hk
      rw [if_neg (by omega), if_neg (by omega), if_neg (by omega)]
    have eN2 : ∀ a, O3 a = 39 → labE O O3 a = 2 := fun a e => by
      unfold labE
      rw [if_neg (by omega), if_pos e]
    generalize labE O O3 = O' at eE eN1 eN2
    have hR := hC3.riv hL3 hwl eN1 eN2
    have oF' : O' (X + 23) = 7 := by rw [eE _ (by omega) (by omega) (by omega)]; exact oF
    have hS0' := hS0.lab eE
    have f1 : yF O' [107] 1608 32208 y0 y' := kp.yF (Nat.le_refl _) oF'
    have hS1 := hS0'.fr f1 rfl
    have tX1 := hS1.1.1
    have oX' : O' X = 5 := hS1.2.1 0 (by omega) (Or.inl rfl)
    have f2 : yF O' [5] 0 0 y' (sR y' X 0 (some (yn y0 + 1))) := yF.refl.sr (by rw [oX']; rfl)
    have hS2 := hS1.river (yn y0 + 1)
    have w57 := hw.2.2.2.2.1
    have w75 := hw.2.2.2.2.2.2.2.1
    have hP : XP G O' (sR y' X 0 (some (yn y0 + 1))) (rvL ν, uX μ, upN (upN (upN (uS μ) 1 0) 2 0) 3 (-1), uW μ, uB μ, uA μ) X (yn y0 + 1) bd le := by
      obtain ⟨-, -, ⟨hN, -⟩, hI0, hT0, -, hW0, ⟨hK1, hK2, -⟩, -, ⟨hG1, -⟩⟩ := hX0
      refine ⟨hS2, hR.fr f2 rfl rfl, ((hN.lab (fun q q1 q2 => eE q q1 (by omega) (by omega))).fr f1 rfl).fr f2 rfl, ⟨?_, ?_, ?_, ?_⟩, (hT0.fr hS0' f1 rfl).fr hS1 f2 rfl, (hW0.fr hS0' f1 rfl).fr hS1 f2 rfl, ⟨_, _, ((hK1.lab2 eE rfl rfl).fr f1 rfl rfl rfl).fr f2 rfl rfl rfl, ?_⟩, ⟨_, _, ((hK2.lab2 eE rfl rfl).fr f1 rfl rfl rfl).fr f2 rfl rfl rfl, ?_⟩, ⟨_, _, ((hG1.lab2 eE rfl rfl).fr f1 rfl rfl rfl).fr f2 rfl rfl rfl, ?_⟩⟩
      · show yf y' X 5 = iI 0
        rw [x_f0 hS0' f1 5 rfl]; exact hI0.1
      · show yf y' X 6 = iI (uS μ 76)
        rw [x_f0 hS0' f1 6 rfl]; exact hI0.2.1
      · show yf y' X 7 = iI 0
        rw [x_f0 hS0' f1 7 rfl]; exact hI0.2.2.1
      · show yf y' X 8 = iI (-1)
        rw [x_f0 hS0' f1 8 rfl]; exact hI0.2.2.2.1
      · show uS μ 57 ≤ 100
        omega
      · show uS μ 58 ≤ 100
        omega
      · show uS μ 75 ≤ 100
        omega
    obtain ⟨y2, dz, b1, b2, b3, hX2, f3⟩ := c_start hP hwR (fun _ => 0) (fun _ => 0)
    have t15 : yt (sR y' X 0 (some (yn y0 + 1))) (yn y0 + 1) = some (.inr 1) := hC3.1.1
    have hdz : dz = vN ν 15 := by
      have w15 : 0 ≤ vN ν 15 ∧ vN ν 15 ≤ 999 := hwl.1.2.2.2.2.2.2.2.2.2.1
      rw [gI_ok t15] at b3
      have q1 : yf y' (yn y0 + 1) 15 = iI dz := Option.some.inj b3
      rw [hC3.2.2.2.1 15 (by omega) (by omega), iI_eq (by omega) (by omega) (by omega) (by omega)] at q1
      exact q1.symm
    -- the model takes it over
    have hrd := rvL_rd hM3 hwl rfl
    obtain ⟨s2, d1, d2, d3, d4, d5, d6⟩ := m_commit hrd hwR hwR.2.2.2.2.2.2.2.2.2.2.2.2
    have eM : fm_river s = some (iI (vN ν 0), s2) := by
      obtain ⟨⟨x1, x2, x3, x4, x5, x6, x7, x8, x9, x10, x11, x12, x13⟩, -, -, -, xh⟩ := hM3
      have m2 := hZ.2.2.2.2.1.2.2.1
      have q46 : pI 46 s' (s'.1 38) = some (mSi s' 46 (iI (vN ν 8))) := by rw [x1]; rfl
      unfold fm_river
      rw [c2, obs, m2, if_pos (by decide), q46, obs]
      simp only [pI, obs]
      rw [show (mSi s' 46 (iI (vN ν 8))).1 39 = iI (vN ν 9) from x2]
      rw [show (mSi (mSi s' 46 (iI (vN ν 8))) 47 (iI (vN ν 9))).1 42 = iI (vN ν 0) from x5]
      rw [show (mSi (mSi (mSi s' 46 (iI (vN ν 8))) 47 (iI (vN ν 9))) 48 (iI (vN ν 0))).1 43 = iI (vN ν 1) from x6]
      rw [show (mSi (mSi (mSi (mSi s' 46 (iI (vN ν 8))) 47 (iI (vN ν 9))) 48 (iI (vN ν 0))) 49 (iI (vN ν 1))).1 44 = iI (vN ν 14) from x7]
      rw [show (mSi (mSi (mSi (mSi (mSi s' 46 (iI (vN ν 8))) 47 (iI (vN ν 9))) 48 (iI (vN ν 0))) 49 (iI (vN ν 1))) 50 (iI (vN ν 14))).1 20 = iI (vN ν 13) from x13]
      rw [show (mSi (mSi (mSi (mSi (mSi (mSi s' 46 (iI (vN ν 8))) 47 (iI (vN ν 9))) 48 (iI (vN ν 0))) 49 (iI (vN ν 1))) 50 (iI (vN ν 14))) 21 (iI (vN ν 13))).1 24 = iI (if vH ν = [] then 0 else 1) from x12]
      by_cases hh : vH ν = []
      · rw [if_pos hh, if_pos (show iI 0 = 0 from rfl)]
        have : (rS (rvL ν)).length = 0 := by
          show (vH ν).length = 0
          rw [hh]; rfl
        rw [this] at d1
        exact d1
      · rw [if_neg hh, if_neg (show ¬ iI 1 = 0 by decide)]
        rw [show (mSi (mSi (mSi (mSi (mSi (mSi s' 46 (iI (vN ν 8))) 47 (iI (vN ν 9))) 48 (iI (vN ν 0))) 49 (iI (vN ν 1))) 50 (iI (vN ν 14))) 21 (iI (vN ν 13))).1 17 = iI (vH ν).length from (xh hh).1]
        exact d1
    have hl0 : lsY G O' y2 (yn y0 + 1 + 1) 1 (rB (rvL ν)) bd := hX2.2.1.2.2.2.2.2.1
    have hS3 := hX2.1
    have eB : fy_B_boards G y2 X = some (iI (vN ν 0)) := by
      unfold fy_B_boards
      rw [x_0 hS3, obs, gR_ok hX2.2.1.1.1 hX2.2.1.2.1.1, obs, ck_ok hl0.1.1, obs, l_size hl0, obs]
      rfl
    have f6 : fr ([46, 47, 48, 49, 50, 21] ++ RK ++ [18, 57, 58, 75, 61]) (LJ ++ [5, 6, 16, 17, 22, 18, 19, 20, 21, 43]) s s2 := by
      refine fr.trans (fr.mono ((((((fs.mono (K' := [46, 47, 48, 49, 50, 21] ++ RK) (J' := LJ) rfl rfl).si (k := 46) (v := iI (vN ν 8)) rfl).si (k := 47) (v := iI (vN ν 9)) rfl).si (k := 48) (v := iI (vN ν 0)) rfl).si (k := 49) (v := iI (vN ν 1)) rfl).si (k := 50) (v := iI (vN ν 14)) rfl |>.si (k := 21) (v := iI (vN ν 13)) rfl) rfl rfl) (d6.mono rfl rfl)
    refine ⟨iI (vN ν 0), y2, s2, ?_, eM, ⟨uBeg (rvL ν, uX μ, upN (upN (upN (uS μ) 1 0) 2 0) 3 (-1), uW μ, uB μ, uA μ) dz, XR.of hX2, ?_, ?_⟩, ?_⟩
    · rw [eC, c1, obs]
      simp only [Sum.elim_inr]
      rw [wR_ok tX1, obs, ck_ok (show yt (sR y' X 0 (some (yn y0 + 1))) X = some (.inr 0) from tX1), obs, b1, obs, ck_ok hS3.1.1, obs, eB, obs]
    · rw [hdz]
      refine MR.beg d2 d3 d4 d5 ?_ ?_ ?_ ?_ ?_
      · rw [d6.s 1 rfl]; exact c7
      · rw [d6.s 2 rfl]; exact hZ.2.2.2.2.1.2.2.1
      · rw [d6.s 3 rfl]; exact hZ.2.2.2.2.1.2.2.2
      · rw [f6.s 76 rfl]; exact hm.2.2.1.2.2.2.2.2.2.2
      · exact f6.ar hm.2.2.2.1 rfl
    · exact wfM.beg hw hwR b2 (N := upN (upN (upN (uS μ) 1 0) 2 0) 3 (-1)) ⟨(by decide : (0 : Int) ≤ 0), (by decide : (0 : Int) ≤ 1600)⟩ hw.2.2.2.2.2.2.2.2.1
    · have k1 := kp.1
      have k3 := f3.1
      refine ⟨?_, ?_, ?_, fun a ha => ?_⟩
      · have : yn (sR y' X 0 (some (yn y0 + 1))) = yn y' := rfl
        omega
      · have : yn (sR y' X 0 (some (yn y0 + 1))) = yn y' := rfl
        omega
      · have : yu (sR y' X 0 (some (yn y0 + 1))) = yu y' := rfl
        omega
      · rw [f3.tag (by show a < yn y'; omega)]
        show yt y' a = yt y a
        rw [f1.tag (by omega), t0]
end O5

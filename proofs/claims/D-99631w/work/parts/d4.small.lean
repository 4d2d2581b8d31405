/-! LAYER 3, the component: small questions -/
set_option maxRecDepth 100000
theorem pw_mono {n m : Nat} (h : n ≤ m) : pw n ≤ pw m := by
  rw [pw_nat, pw_nat]
  exact Int.ofNat_le.mpr (Nat.pow_le_pow_right (by omega) h)
section D4
variable {G : ai_G} {O : Nat → Nat} {y : yS} {μ : Mu} {ρ : Rv} {x : Int → Int} {X r : Nat} {bd ld : Nat → Nat} {K : Int → Nat} {sg : Nat → Nat}
theorem c_board (h : XC G O y ρ x X r bd ld) (hw : wfR ρ) (hx : wfS ρ x) {b what : Int} (h1 : -2147483648 ≤ b) (h2 : b < 2147483648) (h3 : -2147483648 ≤ what) (h4 : what < 2147483648) : fy_B_board G y X (iI b) (iI what) = some (iI (boardV ρ x b what)) := by
  obtain ⟨hS, hR, hN, hV⟩ := h
  unfold fy_B_board boardV
  rw [x_c hS, obs, c_isBoard hS hR hw h1 h2, obs]
  by_cases h : 0 ≤ b ∧ b < rB ρ
  · obtain ⟨h1, h2⟩ := h
    have hb := hw.2.2.1
    have q0 := s_a0 hN hV h1 (show b < 4 by omega)
    have q4 := s_a1 hN hV h1 (show b < 4 by omega)
    have q8 := s_a2 hN hV h1 (show b < 4 by omega)
    have q12 := s_a3 hN hV h1 (show b < 4 by omega)
    have q16 := s_a4 hN hV h1 (show b < 4 by omega)
    have w18 := r_bw hR h1 h2
    have w20 := r_bb hR h1 h2
    have e2 := c_burden hR hw hN hV hx (b := b) (by omega) (by omega)
    have e3 := c_loadsAt hR hw hN hV hx (w := b) (by omega) (by omega)
    simp only [if_pos (And.intro h1 h2), i0, i1, show ¬ iI 1 = iI 0 by decide, if_false, obs, x_0 hS, r_0 hR, r_c0 hR, r_b hR h1 h2, r_bc hR h1 h2]
    have hh : ∀ k : Int, 0 ≤ k → k < 100 → (iI what = iI k ↔ what = k) := fun k k1 k2 => iI_eq h3 h4 (by omega) (by omega)
    by_cases c0 : what = 0
    · simp (disch := omega) only [iI_lit, iI_add, iI_sub, iI_mul, iI_neg, obs, if_true, if_false, Int.reduceEq, Int.reduceLE, Int.reduceLT, Int.reduceAdd, Int.reduceSub, Int.reduceMul, Int.reduceNeg, Nat.reduceEqDiff, hh, if_pos c0, x_1 hS, s_0 hN, q0]
    by_cases c1 : what = 1
    · simp (disch := omega) only [iI_lit, iI_add, iI_sub, iI_mul, iI_neg, obs, if_true, if_false, Int.reduceEq, Int.reduceLE, Int.reduceLT, Int.reduceAdd, Int.reduceSub, Int.reduceMul, Int.reduceNeg, Nat.reduceEqDiff, hh, if_neg c0, if_pos c1, x_1 hS, s_1 hN, q4]
    by_cases c2 : what = 2
    · simp (disch := omega) only [iI_lit, iI_add, iI_sub, iI_mul, iI_neg, obs, if_true, if_false, Int.reduceEq, Int.reduceLE, Int.reduceLT, Int.reduceAdd, Int.reduceSub, Int.reduceMul, Int.reduceNeg, Nat.reduceEqDiff, hh, if_neg c0, if_neg c1, if_pos c2, x_1 hS, s_2 hN, q8]
    by_cases c3 : what = 3
    · simp (disch := omega) only [iI_lit, iI_add, iI_sub, iI_mul, iI_neg, obs, if_true, if_false, Int.reduceEq, Int.reduceLE, Int.reduceLT, Int.reduceAdd, Int.reduceSub, Int.reduceMul, Int.reduceNeg, Nat.reduceEqDiff, hh, if_neg c0, if_neg c1, if_neg c2, if_pos c3, x_1 hS, s_3 hN, q12]
    by_cases c4 : what = 4
    · simp (disch := omega) only [iI_lit, iI_add, iI_sub, iI_mul, iI_neg, obs, if_true, if_false, Int.reduceEq, Int.reduceLE, Int.reduceLT, Int.reduceAdd, Int.reduceSub, Int.reduceMul, Int.reduceNeg, Nat.reduceEqDiff, hh, if_neg c0, if_neg c1, if_neg c2, if_neg c3, if_pos c4, x_1 hS, s_4 hN, q16]
    by_cases c5 : what = 5
    · simp (disch := omega) only [iI_lit, iI_add, iI_sub, iI_mul, iI_neg, obs, if_true, if_false, Int.reduceEq, Int.reduceLE, Int.reduceLT, Int.reduceAdd, Int.reduceSub, Int.reduceMul, Int.reduceNeg, Nat.reduceEqDiff, hh, if_neg c0, if_neg c1, if_neg c2, if_neg c3, if_neg c4, if_pos c5, w18]
    by_cases c6 : what = 6
    · simp (disch := omega) only [iI_lit, iI_add, iI_sub, iI_mul, iI_neg, obs, if_true, if_false, Int.reduceEq, Int.reduceLE, Int.reduceLT, Int.reduceAdd, Int.reduceSub, Int.reduceMul, Int.reduceNeg, Nat.reduceEqDiff, hh, if_neg c0, if_neg c1, if_neg c2, if_neg c3, if_neg c4, if_neg c5, if_pos c6, w20]
    by_cases c7 : what = 7
    · simp (disch := omega) only [iI_lit, iI_add, iI_sub, iI_mul, iI_neg, obs, if_true, if_false, Int.reduceEq, Int.reduceLE, Int.reduceLT, Int.reduceAdd, Int.reduceSub, Int.reduceMul, Int.reduceNeg, Nat.reduceEqDiff, hh, if_neg c0, if_neg c1, if_neg c2, if_neg c3, if_neg c4, if_neg c5, if_neg c6, if_pos c7, x_1 hS, x_0 hS, s_c hN, e2]
    by_cases c8 : what = 8
    · simp (disch := omega) only [iI_lit, iI_add, iI_sub, iI_mul, iI_neg, obs, if_true, if_false, Int.reduceEq, Int.reduceLE, Int.reduceLT, Int.reduceAdd, Int.reduceSub, Int.reduceMul, Int.reduceNeg, Nat.reduceEqDiff, hh, if_neg c0, if_neg c1, if_neg c2, if_neg c3, if_neg c4, if_neg c5, if_neg c6, if_neg c7, if_pos c8, x_1 hS, x_0 hS, s_c hN, e3]
    simp (disch := omega) only [iI_lit, iI_add, iI_sub, iI_mul, iI_neg, obs, if_true, if_false, Int.reduceEq, Int.reduceLE, Int.reduceLT, Int.reduceAdd, Int.reduceSub, Int.reduceMul, Int.reduceNeg, Nat.reduceEqDiff, hh, if_neg c0, if_neg c1, if_neg c2, if_neg c3, if_neg c4, if_neg c5, if_neg c6, if_neg c7, if_neg c8]
  · simp only [if_neg h, iI_lit, iI_add, iI_sub, iI_mul, iI_neg, obs, if_true, if_false, Int.reduceEq, Int.reduceLE, Int.reduceLT, Int.reduceAdd, Int.reduceSub, Int.reduceMul, Int.reduceNeg, Nat.reduceEqDiff]
theorem c_load (h : XC G O y ρ x X r bd ld) (hw : wfR ρ) {l what : Int} (h1 : -2147483648 ≤ l) (h2 : l < 2147483648) (h3 : -2147483648 ≤ what) (h4 : what < 2147483648) : fy_B_load G y X (iI l) (iI what) = some (iI (loadV ρ x l what)) := by
  obtain ⟨hS, hR, hN, hV⟩ := h
  have hl := hw.2.2.2.1
  unfold fy_B_load loadV
  rw [x_c hS, obs, c_isLoad hS hR hw h1 h2, obs]
  by_cases h : 0 ≤ l ∧ l < rL ρ
  · simp (disch := omega) only [if_pos h, iI_lit, iI_add, iI_sub, iI_mul, iI_neg, obs, if_true, if_false, Int.reduceEq, Int.reduceLE, Int.reduceLT, Int.reduceAdd, Int.reduceSub, Int.reduceMul, Int.reduceNeg, Nat.reduceEqDiff, iI_le, iI_lt, iI_eq, show ¬ iI 1 = iI 0 by decide, x_0 hS, r_1 hR, r_c1 hR, r_l hR h.1 h.2, r_lc hR h.1 h.2, r_lw hR h.1 h.2, x_1 hS, s_5 hN, s_a5 hN hV (by omega) h.1 h.2]
    by_cases c0 : what = 0
    · simp only [if_pos c0]
    · by_cases c1 : what = 1
      · simp only [if_neg c0, if_pos c1]
      · simp only [if_neg c0, if_neg c1]
  · simp only [if_neg h, iI_lit, iI_add, iI_sub, iI_mul, iI_neg, obs, if_true, if_false, Int.reduceEq, Int.reduceLE, Int.reduceLT, Int.reduceAdd, Int.reduceSub, Int.reduceMul, Int.reduceNeg, Nat.reduceEqDiff]
theorem c_spot (h : XC G O y ρ x X r bd ld) (hw : wfR ρ) {c k what : Int} (h1 : -2147483648 ≤ c) (h2 : c < 2147483648) (h3 : -2147483648 ≤ k) (h4 : k < 2147483648) (h5 : -2147483648 ≤ what) (h6 : what < 2147483648) : fy_B_spot G y X (iI c) (iI k) (iI what) = some (iI (spotV ρ c k what)) := by
  obtain ⟨hS, hR, hN, hV⟩ := h
  have hC := hw.1
  have hr := hw.2.1
  unfold fy_B_spot spotV
  simp (disch := omega) only [x_0 hS, r_col hR, r_row hR, iI_lit, iI_add, iI_sub, iI_mul, iI_neg, obs, if_true, if_false, Int.reduceEq, Int.reduceLE, Int.reduceLT, Int.reduceAdd, Int.reduceSub, Int.reduceMul, Int.reduceNeg, Nat.reduceEqDiff, c_isIn]
  by_cases q1 : 0 ≤ c ∧ c ≤ rC ρ - 1
  · simp only [if_pos q1, iI_lit, iI_add, iI_sub, iI_mul, iI_neg, obs, if_true, if_false, Int.reduceEq, Int.reduceLE, Int.reduceLT, Int.reduceAdd, Int.reduceSub, Int.reduceMul, Int.reduceNeg, Nat.reduceEqDiff, show ¬ iI 1 = iI 0 by decide]
    by_cases q2 : 0 ≤ k ∧ k ≤ rR ρ
    · have e1 := r_cu hR (z := 8 * k + c) (by omega) (by omega)
      have e2 := r_ir hR (z := 8 * k + c) (by omega) (by omega)
      have h7 := hw.2.2.2.2.2.2.2.2.1 (8 * k + c) (by omega) (by omega)
      simp (disch := omega) only [if_pos q2, if_pos (And.intro q1 q2), iI_lit, iI_add, iI_sub, iI_mul, iI_neg, obs, if_true, if_false, Int.reduceEq, Int.reduceLE, Int.reduceLT, Int.reduceAdd, Int.reduceSub, Int.reduceMul, Int.reduceNeg, Nat.reduceEqDiff, iI_le, iI_lt, iI_eq, show ¬ iI 1 = iI 0 by decide, r_2 hR, r_4 hR, r_c hR, c_cell, e1, e2]
      by_cases q4 : what = 0
      · simp only [if_pos q4]
      · by_cases q5 : what = 1
        · simp only [if_neg q4, if_pos q5]
          rcases h7 with h7 | h7 <;> simp only [h7, iI_lit, iI_add, iI_sub, iI_mul, iI_neg, obs, if_true, if_false, Int.reduceEq, Int.reduceLE, Int.reduceLT, Int.reduceAdd, Int.reduceSub, Int.reduceMul, Int.reduceNeg, Nat.reduceEqDiff, show ¬ (1 : Int) = 0 by omega]
        · simp only [if_neg q4, if_neg q5]
    · simp only [if_neg q2, iI_lit, iI_add, iI_sub, iI_mul, iI_neg, obs, if_true, if_false, Int.reduceEq, Int.reduceLE, Int.reduceLT, Int.reduceAdd, Int.reduceSub, Int.reduceMul, Int.reduceNeg, Nat.reduceEqDiff, if_neg (show ¬ ((0 ≤ c ∧ c ≤ rC ρ - 1) ∧ 0 ≤ k ∧ k ≤ rR ρ) from fun z => q2 z.2)]
  · simp only [if_neg q1, iI_lit, iI_add, iI_sub, iI_mul, iI_neg, obs, if_true, if_false, Int.reduceEq, Int.reduceLE, Int.reduceLT, Int.reduceAdd, Int.reduceSub, Int.reduceMul, Int.reduceNeg, Nat.reduceEqDiff, if_neg (show ¬ ((0 ≤ c ∧ c ≤ rC ρ - 1) ∧ 0 ≤ k ∧ k ≤ rR ρ) from fun z => q1 z.1)]
theorem c_hotterB (h : XC G O y ρ x X r bd ld) (hw : wfR ρ) (hx : wfS ρ x) {b : Int} (h1 : -2147483648 ≤ b) (h2 : b < 2147483648) : ∃ y', fy_B_hotter G y X (iI b) = some (iI (if 0 ≤ b ∧ b < rB ρ then hot ρ x b else -1), y') ∧ yF O [2] 0 0 y y' := by
  obtain ⟨hS, hR, hN, hV⟩ := h
  unfold fy_B_hotter
  rw [x_c hS, obs, c_isBoard hS hR hw h1 h2, obs]
  by_cases h : 0 ≤ b ∧ b < rB ρ
  · obtain ⟨y1, e1, f1⟩ := c_hotter hR hw hN hV hx (Or.inl rfl) h.1 h.2
    refine ⟨y1, ?_, f1⟩
    simp only [if_pos h, iI_lit, iI_add, iI_sub, iI_mul, iI_neg, obs, if_true, if_false, Int.reduceEq, Int.reduceLE, Int.reduceLT, Int.reduceAdd, Int.reduceSub, Int.reduceMul, Int.reduceNeg, Nat.reduceEqDiff, show ¬ iI 1 = iI 0 by decide, x_0 hS, x_1 hS, r_c hR, e1]
  · exact ⟨y, by simp only [if_neg h, iI_lit, iI_add, iI_sub, iI_mul, iI_neg, obs, if_true, if_false, Int.reduceEq, Int.reduceLE, Int.reduceLT, Int.reduceAdd, Int.reduceSub, Int.reduceMul, Int.reduceNeg, Nat.reduceEqDiff], yF.refl⟩
theorem c_over (h : XC G O y ρ x X r bd ld) (hw : wfR ρ) (hx : wfS ρ x) : fy_B_over G y X = some (iI (atS ρ x (-2))) := by
  obtain ⟨hS, hR, hN, hV⟩ := h
  have e := c_loadsAt hR hw hN hV hx (w := -2) (by omega) (by omega)
  simp only [fy_B_over, x_1 hS, x_0 hS, s_c hN, iI_lit, iI_add, iI_sub, iI_mul, iI_neg, obs, if_true, if_false, Int.reduceEq, Int.reduceLE, Int.reduceLT, Int.reduceAdd, Int.reduceSub, Int.reduceMul, Int.reduceNeg, Nat.reduceEqDiff, e]
theorem c_left (h : XC G O y ρ x X r bd ld) (hw : wfR ρ) (hx : wfS ρ x) : fy_B_left G y X = some (iI (wid ρ (pw (rL ρ) - 1 - atS ρ x (-2)))) := by
  have eo := c_over h hw hx
  obtain ⟨hS, hR, hN, hV⟩ := h
  have hl := hw.2.2.2.1
  have ha := atS_b hw x (-2)
  have hp := atS_pw x (-2) hw
  have h7 : pw (rL ρ) ≤ 256 := by
    have := pw7 (n := (rL ρ).toNat) (by omega)
    rwa [show (((rL ρ).toNat : Nat) : Int) = rL ρ by omega] at this
  have e1 := comp_i hl.1 hl.2 ha.1 hp
  have e2 := c_widthOf hR hw (S := pw (rL ρ) - 1 - atS ρ x (-2)) (by omega) (by omega)
  unfold fy_B_left
  simp only [x_0 hS, x_c hS, c_loads hS hR, eo, r_c hR, obs]
  rw [show (1 : Int32) = iI 1 from rfl, show (31 : Int32) = iI 31 from rfl, iI_neg, shl_i hl.1 (by omega), e1, e2]
  rfl
theorem c_pulled (h : XC G O y ρ x X r bd ld) (hw : wfR ρ) (hx : wfS ρ x) : fy_B_pulled G y X = some (iI (setP (pullP ρ x) (rB ρ).toNat)) := by
  obtain ⟨hS, hR, hN, hV⟩ := h
  have hb := hw.2.2.1
  have hC := hw.1
  have hr := hw.2.1
  unfold fy_B_pulled
  have : lp (fy_B_pulled_b4 G y X) (0, 0) = some (iI (setP (pullP ρ x) (rB ρ).toNat)) := by
    refine lp_seq (fun i => (iI (setP (pullP ρ x) i), iI i)) (rB ρ).toNat (fun i hi => ?_) ?_
    · have h1 := hx.1 i (by omega) (by omega)
      have h3 := setP_b (pullP ρ x) i
      have q0 := s_a0 hN hV (b := i) (by omega) (by omega)
      have q1 := s_a1 hN hV (b := i) (by omega) (by omega)
      have q2 := r_cu hR (z := 8 * x (4 + i) + x i) (by omega) (by omega)
      have q3 := hw.2.2.2.2.2.2.1 (8 * x (4 + i) + x i) (by omega) (by omega)
      simp (disch := omega) only [fy_B_pulled_b4, x_c hS, c_boards hS hR, x_0 hS, r_2 hR, x_1 hS, s_0 hN, s_1 hN, q0, q1, r_c hR, c_cell, q2, iI_lit, iI_add, iI_sub, iI_mul, iI_neg, obs, if_true, if_false, Int.reduceEq, Int.reduceLE, Int.reduceLT, Int.reduceAdd, Int.reduceSub, Int.reduceMul, Int.reduceNeg, Nat.reduceEqDiff, iI_le, iI_lt, iI_eq, setP]
      rw [if_neg (by omega)]
      by_cases hc : rCu ρ (8 * x (4 + i) + x i) ≤ 0
      · rw [if_pos hc, if_neg (by unfold pullP; simp; omega), Int.add_zero]
        rfl
      · rw [if_neg hc, or_i (by omega) (by omega) h3.1 h3.2, if_pos (by unfold pullP; simp; omega)]
        rfl
    · simp (disch := omega) only [fy_B_pulled_b4, x_c hS, c_boards hS hR, iI_lit, iI_add, iI_sub, iI_mul, iI_neg, obs, if_true, if_false, Int.reduceEq, Int.reduceLE, Int.reduceLT, Int.reduceAdd, Int.reduceSub, Int.reduceMul, Int.reduceNeg, Nat.reduceEqDiff, iI_le, iI_lt, iI_eq]
      rw [if_pos (by omega)]
  rw [this]
  rfl
theorem c_bearsYet (h : XC G O y ρ x X r bd ld) (hw : wfR ρ) {b : Int} (h1 : 0 ≤ b) (h2 : b < rB ρ) : fy_B_bearsYet G y X (iI b) = some (iI (rBB ρ b - x (8 + b))) := by
  obtain ⟨hS, hR, hN, hV⟩ := h
  have hb := hw.2.2.1
  simp (disch := omega) only [fy_B_bearsYet, x_0 hS, r_0 hR, r_c0 hR, r_b hR h1 h2, r_bc hR h1 h2, r_bb hR h1 h2, x_1 hS, s_2 hN, s_a2 hN hV h1 (show b < 4 by omega), obs, iI_sub]
theorem c_hottest (h : XC G O y ρ x X r bd ld) (hw : wfR ρ) (hx : wfS ρ x) : fy_B_hottest G y X = some (iI (hotN ρ x (rB ρ).toNat)) := by
  have hb := hw.2.2.1
  have hB := hw.2.2.2.2.2.2.2.2.2.1
  unfold fy_B_hottest
  have : lp (fy_B_hottest_b4 G y X) (-1, 0) = some (iI (hotN ρ x (rB ρ).toNat)) := by
    refine lp_seq (fun i => (iI (hotN ρ x i), iI i)) (rB ρ).toNat (fun i hi => ?_) ?_
    · have h3 := hotN_b ρ x i
      have h4 := hB i (by omega) (by omega)
      have h5 := hx.1 i (by omega) (by omega)
      have e1 := c_bearsYet h hw (b := i) (by omega) (by omega)
      simp (disch := omega) only [fy_B_hottest_b4, x_c h.1, c_boards h.1 h.2.1, iI_lit, iI_add, iI_sub, iI_mul, iI_neg, obs, if_true, if_false, Int.reduceEq, Int.reduceLE, Int.reduceLT, Int.reduceAdd, Int.reduceSub, Int.reduceMul, Int.reduceNeg, Nat.reduceEqDiff, iI_le, iI_lt, iI_eq, hotN]
      rw [if_neg (by omega)]
      by_cases hc : hotN ρ x i < 0
      · simp only [if_pos hc]
        rfl
      · have h6 := hB (hotN ρ x i) (by omega) (by omega)
        have h7 := hx.1 (hotN ρ x i) (by omega) (by omega)
        have e2 := c_bearsYet h hw (b := hotN ρ x i) (by omega) (by omega)
        simp (disch := omega) only [if_neg hc, x_c h.1, e1, e2, iI_lit, iI_add, iI_sub, iI_mul, iI_neg, obs, if_true, if_false, Int.reduceEq, Int.reduceLE, Int.reduceLT, Int.reduceAdd, Int.reduceSub, Int.reduceMul, Int.reduceNeg, Nat.reduceEqDiff, iI_le, iI_lt, iI_eq]
        by_cases hd : rBB ρ (hotN ρ x i) - x (8 + hotN ρ x i) ≤ rBB ρ i - x (8 + i)
        · simp only [if_pos hd]
          rfl
        · simp only [if_neg hd]
          rfl
    · simp (disch := omega) only [fy_B_hottest_b4, x_c h.1, c_boards h.1 h.2.1, iI_lit, iI_add, iI_sub, iI_mul, iI_neg, obs, if_true, if_false, Int.reduceEq, Int.reduceLE, Int.reduceLT, Int.reduceAdd, Int.reduceSub, Int.reduceMul, Int.reduceNeg, Nat.reduceEqDiff, iI_le, iI_lt, iI_eq]
      rw [if_pos (by omega)]
  rw [this]
  rfl
theorem c_law (h : XC G O y ρ x X r bd ld) (hw : wfR ρ) (hx : wfS ρ x) {n : Int} (h1 : -2147483648 ≤ n) (h2 : n < 2147483648) : fy_B_law G y X (iI n) = some (iI (if 0 ≤ n ∧ n ≤ 99 then lawN ρ x n (rL ρ).toNat else -1)) := by
  obtain ⟨hS, hR, hN, hV⟩ := h
  have hl := hw.2.2.2.1
  have hlb := hw.2.2.2.2.2.2.2.2.2.2.1
  have hb := hw.2.2.1
  unfold fy_B_law
  simp (disch := omega) only [iI_lit, iI_add, iI_sub, iI_mul, iI_neg, obs, if_true, if_false, Int.reduceEq, Int.reduceLE, Int.reduceLT, Int.reduceAdd, Int.reduceSub, Int.reduceMul, Int.reduceNeg, Nat.reduceEqDiff, c_isIn]
  by_cases h : 0 ≤ n ∧ n ≤ 99
  · have : lp (fy_B_law_b16 G y X (iI n)) (iI 0, iI 0) = some (iI (lawN ρ x n (rL ρ).toNat)) := by
      refine lp_seq (fun i => (iI (lawN ρ x n i), iI i)) (rL ρ).toNat (fun i hi => ?_) ?_
      · have h3 := hlb i (by omega) (by omega)
        have h4 := hx.2.1 i (by omega) (by omega)
        have q5 := s_a5 hN hV (by omega) (l := i) (by omega) (by omega)
        simp (disch := omega) only [fy_B_law_b16, x_c hS, c_loads hS hR, x_1 hS, s_5 hN, q5, x_0 hS, r_1 hR, r_c1 hR, r_l hR, r_lc hR, r_lw hR, iI_lit, iI_add, iI_sub, iI_mul, iI_neg, obs, if_true, if_false, Int.reduceEq, Int.reduceLE, Int.reduceLT, Int.reduceAdd, Int.reduceSub, Int.reduceMul, Int.reduceNeg, Nat.reduceEqDiff, iI_le, iI_lt, iI_eq, lawN]
        rw [if_neg (by omega)]
        by_cases c1 : x (20 + i) = -1
        · by_cases c2 : n < rLW ρ i
          · simp only [if_pos c1, if_pos c2, if_neg (show ¬ (x (20 + i) = -1 ∧ rLW ρ i ≤ n) by omega), Int.add_zero]
            rfl
          · simp only [if_pos c1, if_neg c2, if_pos (show x (20 + i) = -1 ∧ rLW ρ i ≤ n by omega)]
            rfl
        · simp only [if_neg c1, if_neg (show ¬ (x (20 + i) = -1 ∧ rLW ρ i ≤ n) by omega), Int.add_zero]
          rfl
      · simp (disch := omega) only [fy_B_law_b16, x_c hS, c_loads hS hR, iI_lit, iI_add, iI_sub, iI_mul, iI_neg, obs, if_true, if_false, Int.reduceEq, Int.reduceLE, Int.reduceLT, Int.reduceAdd, Int.reduceSub, Int.reduceMul, Int.reduceNeg, Nat.reduceEqDiff, iI_le, iI_lt, iI_eq]
        rw [if_pos (by omega)]
    simp only [if_pos h, iI_lit, iI_add, iI_sub, iI_mul, iI_neg, obs, if_true, if_false, Int.reduceEq, Int.reduceLE, Int.reduceLT, Int.reduceAdd, Int.reduceSub, Int.reduceMul, Int.reduceNeg, Nat.reduceEqDiff, show ¬ iI 1 = iI 0 by decide]
    rw [this]
    rfl
  · simp only [if_neg h, iI_lit, iI_add, iI_sub, iI_mul, iI_neg, obs, if_true, if_false, Int.reduceEq, Int.reduceLE, Int.reduceLT, Int.reduceAdd, Int.reduceSub, Int.reduceMul, Int.reduceNeg, Nat.reduceEqDiff]
theorem c_bankOf (h : XC G O y ρ x X r bd ld) (hw : wfR ρ) (hx : wfS ρ x) {b : Int} (h1 : 0 ≤ b) (h2 : b < rB ρ) : fy_State_bankOf G y (X + 8) r (iI b) = some (iI (if x (4 + b) = 0 then -1 else if x (4 + b) = rR ρ then -2 else 0)) := by
  obtain ⟨hS, hR, hN, hV⟩ := h
  have hb := hw.2.2.1
  have hr := hw.2.1
  have h3 := hx.1 b h1 h2
  simp (disch := omega) only [fy_State_bankOf, s_1 hN, s_a1 hN hV h1 (show b < 4 by omega), r_row hR, iI_lit, iI_add, iI_sub, iI_mul, iI_neg, obs, if_true, if_false, Int.reduceEq, Int.reduceLE, Int.reduceLT, Int.reduceAdd, Int.reduceSub, Int.reduceMul, Int.reduceNeg, Nat.reduceEqDiff, iI_le, iI_lt, iI_eq]
  by_cases c : x (4 + b) = 0
  · simp only [if_pos c]
  · by_cases c2 : x (4 + b) = rR ρ
    · simp only [if_neg c, if_pos c2]
    · simp only [if_neg c, if_neg c2]
theorem c_liesFlat (h : XC G O y ρ x X r bd ld) (hw : wfR ρ) (hx : wfS ρ x) {b m : Int} (h1 : 0 ≤ b) (h2 : b < rB ρ) (h3 : -10000 ≤ m) (h4 : m ≤ 10000) : fy_B_liesFlat G y X (iI b) (iI m) = some (iI (if rBW ρ b < burd ρ x b + m then 0 else 1)) := by
  obtain ⟨hS, hR, hN, hV⟩ := h
  have hb := hw.2.2.1
  have e := c_burden hR hw hN hV hx (b := b) (by omega) (by omega)
  have e2 := burd_b hw x b
  have h5 := hw.2.2.2.2.2.2.2.2.2.1 b h1 h2
  simp (disch := omega) only [fy_B_liesFlat, x_1 hS, x_0 hS, s_c hN, e, r_0 hR, r_c0 hR, r_b hR h1 h2, r_bc hR h1 h2, r_bw hR h1 h2, iI_lit, iI_add, iI_sub, iI_mul, iI_neg, obs, if_true, if_false, Int.reduceEq, Int.reduceLE, Int.reduceLT, Int.reduceAdd, Int.reduceSub, Int.reduceMul, Int.reduceNeg, Nat.reduceEqDiff, iI_le, iI_lt, iI_eq]
  split <;> rfl
theorem c_widest (h : XC G O y ρ x X r bd ld) (hw : wfR ρ) (hx : wfS ρ x) {b what : Int} (h1 : -2147483648 ≤ b) (h2 : b < 2147483648) (h3 : -2147483648 ≤ what) (h4 : what < 2147483648) : fy_B_widest G y X (iI b) (iI what) = some (iI (if (0 ≤ b ∧ b < rB ρ) ∧ (x (4 + b) = 0 ∨ x (4 + b) = rR ρ) ∧ 0 ≤ what ∧ what ≤ 1 then (if what = 0 then wid ρ (wstN ρ x b (atS ρ x (if x (4 + b) = 0 then -1 else -2)) (atS ρ x (if x (4 + b) = 0 then -1 else -2)).toNat) else wstN ρ x b (atS ρ x (if x (4 + b) = 0 then -1 else -2)) (atS ρ x (if x (4 + b) = 0 then -1 else -2)).toNat) else -1)) := by
  have hh := h
  obtain ⟨hS, hR, hN, hV⟩ := h
  have hl := hw.2.2.2.1
  unfold fy_B_widest
  rw [x_c hS, obs, c_isBoard hS hR hw h1 h2, obs]
  by_cases hb : 0 ≤ b ∧ b < rB ρ
  rotate_left
  · simp only [if_neg hb, iI_lit, iI_add, iI_sub, iI_mul, iI_neg, obs, if_true, if_false, Int.reduceEq, Int.reduceLE, Int.reduceLT, Int.reduceAdd, Int.reduceSub, Int.reduceMul, Int.reduceNeg, Nat.reduceEqDiff, if_neg (show ¬ ((0 ≤ b ∧ b < rB ρ) ∧ (x (4 + b) = 0 ∨ x (4 + b) = rR ρ) ∧ 0 ≤ what ∧ what ≤ 1) from fun z => hb z.1)]
  simp (disch := omega) only [if_pos hb, iI_lit, iI_add, iI_sub, iI_mul, iI_neg, obs, if_true, if_false, Int.reduceEq, Int.reduceLE, Int.reduceLT, Int.reduceAdd, Int.reduceSub, Int.reduceMul, Int.reduceNeg, Nat.reduceEqDiff, show ¬ iI 1 = iI 0 by decide, c_isIn]
  by_cases hq : 0 ≤ what ∧ what ≤ 1
  rotate_left
  · simp only [if_neg hq, iI_lit, iI_add, iI_sub, iI_mul, iI_neg, obs, if_true, if_false, Int.reduceEq, Int.reduceLE, Int.reduceLT, Int.reduceAdd, Int.reduceSub, Int.reduceMul, Int.reduceNeg, Nat.reduceEqDiff, if_neg (show ¬ ((0 ≤ b ∧ b < rB ρ) ∧ (x (4 + b) = 0 ∨ x (4 + b) = rR ρ) ∧ 0 ≤ what ∧ what ≤ 1) from fun z => hq z.2.2)]
  have eb := c_bankOf hh hw hx hb.1 hb.2
  have h5 := hx.1 b hb.1 hb.2
  simp only [if_pos hq, iI_lit, iI_add, iI_sub, iI_mul, iI_neg, obs, if_true, if_false, Int.reduceEq, Int.reduceLE, Int.reduceLT, Int.reduceAdd, Int.reduceSub, Int.reduceMul, Int.reduceNeg, Nat.reduceEqDiff, show ¬ iI 1 = iI 0 by decide, x_1 hS, x_0 hS, s_c hN, eb]
  by_cases hk : x (4 + b) = 0 ∨ x (4 + b) = rR ρ
  rotate_left
  · simp only [if_neg (show ¬ x (4 + b) = 0 from fun z => hk (Or.inl z)), if_neg (show ¬ x (4 + b) = rR ρ from fun z => hk (Or.inr z)), iI_lit, iI_add, iI_sub, iI_mul, iI_neg, obs, if_true, if_false, Int.reduceEq, Int.reduceLE, Int.reduceLT, Int.reduceAdd, Int.reduceSub, Int.reduceMul, Int.reduceNeg, Nat.reduceEqDiff, if_neg (show ¬ ((0 ≤ b ∧ b < rB ρ) ∧ (x (4 + b) = 0 ∨ x (4 + b) = rR ρ) ∧ 0 ≤ what ∧ what ≤ 1) from fun z => hk z.2.1)]
  have ek : (if x (4 + b) = 0 then -1 else if x (4 + b) = rR ρ then -2 else 0) = (if x (4 + b) = 0 then (-1 : Int) else -2) := by
    by_cases c : x (4 + b) = 0
    · rw [if_pos c, if_pos c]
    · rw [if_neg c, if_neg c, if_pos (by omega)]
  rw [ek]
  generalize hm : (if x (4 + b) = 0 then (-1 : Int) else -2) = m
  have hm2 : m = -1 ∨ m = -2 := by rw [← hm]; split <;> simp
  have e3 := c_loadsAt hR hw hN hV hx (w := m) (by omega) (by omega)
  have ha := atS_b hw x m
  have hap := atS_pw x m hw
  have h7 : pw (rL ρ) ≤ 128 := by
    have := pw_mono (n := (rL ρ).toNat) (m := 7) (by omega)
    rw [show (((rL ρ).toNat : Nat) : Int) = rL ρ by omega] at this
    exact this
  generalize hmay : atS ρ x m = may at *
  have hwb : ∀ k : Nat, 0 ≤ wstN ρ x b may k ∧ wstN ρ x b may k ≤ k := by
    intro k
    induction k with
    | zero => exact ⟨Int.le_refl _, Int.le_refl _⟩
    | succ k ih =>
      simp only [wstN]
      split <;> omega
  have hstop : ∀ k : Nat, may.toNat ≤ k → (k : Int) < pw (rL ρ) → wstN ρ x b may k = wstN ρ x b may may.toNat := by
    intro k
    induction k with
    | zero => intro z _; rw [show may.toNat = 0 by omega]
    | succ k ih =>
      intro z z2
      by_cases c : may.toNat = k + 1
      · rw [c]
      · rw [← ih (by omega) (by omega)]
        simp only [wstN]
        rw [if_neg]
        rintro ⟨z3, -⟩
        have := sub_le (S := (k : Int) + 1) (T := may) (by omega) (by omega) ha.1 (by omega) z3
        omega
  have : lp (fy_B_widest_b64 G y X (iI b) (iI what) (iI may)) (iI 0, iI 1) = some (iI (wstN ρ x b may may.toNat)) := by
    refine lp_seq (fun i => (iI (wstN ρ x b may i), iI ((i : Int) + 1))) ((pw (rL ρ)).toNat - 1) (fun i hi => ?_) ?_
    · have hp0 := pw_pos (rL ρ)
      have e4 := c_widthOf hR hw (S := (i : Int) + 1) (by omega) (by omega)
      have e5 := c_widthOf hR hw (S := wstN ρ x b may i) (by have := hwb i; omega) (by have := hwb i; omega)
      have w1 := wid_b hw ((i : Int) + 1)
      have w2 := wid_b hw (wstN ρ x b may i)
      have w3 := burd_b hw x b
      have e6 := c_liesFlat hh hw hx hb.1 hb.2 (m := wid ρ ((i : Int) + 1)) (by omega) (by omega)
      have es := shl_i (l := rL ρ) hl.1 (by omega)
      simp (disch := omega) only [fy_B_widest_b64, x_c hS, c_loads hS hR, iI_lit, iI_add, iI_sub, iI_mul, iI_neg, obs, if_true, if_false, Int.reduceEq, Int.reduceLE, Int.reduceLT, Int.reduceAdd, Int.reduceSub, Int.reduceMul, Int.reduceNeg, Nat.reduceEqDiff, es, iI_le, iI_lt, iI_eq, x_0 hS, r_c hR, e4, e5, e6, wstN]
      rw [if_neg (by omega)]
      by_cases c1 : subI ((i : Int) + 1) may
      · rw [if_pos c1]
        by_cases c2 : rBW ρ b < burd ρ x b + wid ρ ((i : Int) + 1)
        · simp only [if_pos c2, iI_lit, iI_add, iI_sub, iI_mul, iI_neg, obs, if_true, if_false, Int.reduceEq, Int.reduceLE, Int.reduceLT, Int.reduceAdd, Int.reduceSub, Int.reduceMul, Int.reduceNeg, Nat.reduceEqDiff]
          rw [if_neg (by omega)]
          rfl
        · simp only [if_neg c2, iI_lit, iI_add, iI_sub, iI_mul, iI_neg, obs, if_true, if_false, Int.reduceEq, Int.reduceLE, Int.reduceLT, Int.reduceAdd, Int.reduceSub, Int.reduceMul, Int.reduceNeg, Nat.reduceEqDiff, show ¬ iI 1 = iI 0 by decide]
          by_cases c3 : wid ρ ((i : Int) + 1) ≤ wid ρ (wstN ρ x b may i)
          · rw [if_pos c3, if_neg (by omega)]
            rfl
          · rw [if_neg c3, if_pos ⟨c1, by omega, by omega⟩]
            rfl
      · rw [if_neg c1, if_neg (fun z => c1 z.1)]
        rfl
    · have hp0 := pw_pos (rL ρ)
      have es := shl_i (l := rL ρ) hl.1 (by omega)
      simp (disch := omega) only [fy_B_widest_b64, x_c hS, c_loads hS hR, iI_lit, iI_add, iI_sub, iI_mul, iI_neg, obs, if_true, if_false, Int.reduceEq, Int.reduceLE, Int.reduceLT, Int.reduceAdd, Int.reduceSub, Int.reduceMul, Int.reduceNeg, Nat.reduceEqDiff, es, iI_le, iI_lt, iI_eq]
      rw [if_pos (by omega), hstop _ (by omega) (by omega)]
  have hne : ¬ iI m = iI 0 := by rcases hm2 with rfl | rfl <;> decide
  simp only [hne, if_false, e3, obs, s_c hN]
  rw [this]
  have e8 := c_widthOf hR hw (S := wstN ρ x b may may.toNat) (by have := hwb may.toNat; omega) (by have := hwb may.toNat; omega)
  simp (disch := omega) only [iI_lit, iI_add, iI_sub, iI_mul, iI_neg, obs, if_true, if_false, Int.reduceEq, Int.reduceLE, Int.reduceLT, Int.reduceAdd, Int.reduceSub, Int.reduceMul, Int.reduceNeg, Nat.reduceEqDiff, iI_le, iI_lt, iI_eq, x_0 hS, r_c hR, e8, if_pos (show (0 ≤ b ∧ b < rB ρ) ∧ (x (4 + b) = 0 ∨ x (4 + b) = rR ρ) ∧ 0 ≤ what ∧ what ≤ 1 from ⟨hb, hk, hq⟩)]
  by_cases c : what = 0
  · simp only [if_pos c]
  · simp only [if_neg c]
theorem c_lies (hS : xS O y X r) (hI : xI y μ X) (hL : xL y μ X) (hw : wfM μ) {i : Int} (h1 : -2147483648 ≤ i) (h2 : i < 2147483648) : fy_B_lies G y X (iI i) = some (iI (liesV μ i)) := by
  have h7 := hw.2.2.2.2.2.2.1
  unfold fy_B_lies liesV
  simp (disch := omega) only [x_i13 hS hI, iI_lit, iI_add, iI_sub, iI_mul, iI_neg, obs, if_true, if_false, Int.reduceEq, Int.reduceLE, Int.reduceLT, Int.reduceAdd, Int.reduceSub, Int.reduceMul, Int.reduceNeg, Nat.reduceEqDiff, c_isIn]
  by_cases h : 0 ≤ i ∧ i < uS μ 61
  · have e := aI_n 7 (x_t26 hS) (z := i) h.1 (by omega) (by omega)
    rw [hL i h.1 h.2] at e
    simp only [if_pos (show 0 ≤ i ∧ i ≤ uS μ 61 - 1 by omega), if_pos h, iI_lit, iI_add, iI_sub, iI_mul, iI_neg, obs, if_true, if_false, Int.reduceEq, Int.reduceLE, Int.reduceLT, Int.reduceAdd, Int.reduceSub, Int.reduceMul, Int.reduceNeg, Nat.reduceEqDiff, show ¬ iI 1 = iI 0 by decide, x_11 hS, e]
  · simp only [if_neg (show ¬ (0 ≤ i ∧ i ≤ uS μ 61 - 1) by omega), if_neg h, iI_lit, iI_add, iI_sub, iI_mul, iI_neg, obs, if_true, if_false, Int.reduceEq, Int.reduceLE, Int.reduceLT, Int.reduceAdd, Int.reduceSub, Int.reduceMul, Int.reduceNeg, Nat.reduceEqDiff]
theorem c_fault (hS : xS O y X r) (hI : xI y μ X) {i : Int} (h1 : -2147483648 ≤ i) (h2 : i < 2147483648) : fy_B_fault G y X (iI i) = some (iI (faultV μ i)) := by
  unfold fy_B_fault faultV
  simp (disch := omega) only [x_i7 hS hI, x_i8 hS hI, iI_lit, iI_add, iI_sub, iI_mul, iI_neg, obs, if_true, if_false, Int.reduceEq, Int.reduceLE, Int.reduceLT, Int.reduceAdd, Int.reduceSub, Int.reduceMul, Int.reduceNeg, Nat.reduceEqDiff, iI_le, iI_lt, iI_eq]
  by_cases c : i = 0
  · simp only [if_pos c]
  · by_cases c2 : i = 1
    · simp only [if_neg c, if_pos c2]
    · simp only [if_neg c, if_neg c2]
theorem c_about (h : XQ G O y μ X r bd ld K sg) {i : Int} (h1 : -2147483648 ≤ i) (h2 : i < 2147483648) : fy_B_about G y X (iI i) = some (iI (aboutV μ i)) := by
  obtain ⟨hS, hR, ⟨hN, hV⟩, hI, hT, hL, hW, ⟨hK1, hK2, -⟩, hB, ⟨hG, -⟩⟩ := h
  have hh : ∀ k : Int, 0 ≤ k → k < 100 → (iI i = iI k ↔ i = k) := fun k k1 k2 => iI_eq h1 h2 (by omega) (by omega)
  unfold fy_B_about aboutV
  simp (config := { maxSteps := 10000000 }) (disch := omega) only [iI_lit, iI_add, iI_sub, iI_mul, iI_neg, obs, if_true, if_false, Int.reduceEq, Int.reduceLE, Int.reduceLT, Int.reduceAdd, Int.reduceSub, Int.reduceMul, Int.reduceNeg, Nat.reduceEqDiff, hh, x_c hS, c_boards hS hR, c_loads hS hR, x_0 hS, r_col hR, r_row hR, r_fl hR, r_un hR, x_1 hS, s_sd hN hV, x_9 hS, l_c hK1, l_size hK1, x_10 hS, l_c hK2, l_size hK2, x_23 hS, l_c hG, l_size hG, x_i6 hS hI, x_i5 hS hI, x_i13 hS hI]
  by_cases c0 : i = 0
  · simp only [if_pos c0]
  by_cases c1 : i = 1
  · simp only [if_neg c0, if_pos c1]
  by_cases c2 : i = 2
  · simp only [if_neg c0, if_neg c1, if_pos c2]
  by_cases c3 : i = 3
  · simp only [if_neg c0, if_neg c1, if_neg c2, if_pos c3]
  by_cases c4 : i = 4
  · simp only [if_neg c0, if_neg c1, if_neg c2, if_neg c3, if_pos c4]
  by_cases c5 : i = 5
  · simp only [if_neg c0, if_neg c1, if_neg c2, if_neg c3, if_neg c4, if_pos c5]
  by_cases c6 : i = 6
  · simp only [if_neg c0, if_neg c1, if_neg c2, if_neg c3, if_neg c4, if_neg c5, if_pos c6]
  by_cases c7 : i = 7
  · simp only [if_neg c0, if_neg c1, if_neg c2, if_neg c3, if_neg c4, if_neg c5, if_neg c6, if_pos c7]
  by_cases c8 : i = 8
  · simp only [if_neg c0, if_neg c1, if_neg c2, if_neg c3, if_neg c4, if_neg c5, if_neg c6, if_neg c7, if_pos c8]
  by_cases c9 : i = 9
  · simp only [if_neg c0, if_neg c1, if_neg c2, if_neg c3, if_neg c4, if_neg c5, if_neg c6, if_neg c7, if_neg c8, if_pos c9]
  by_cases ca : i = 10
  · simp only [if_neg c0, if_neg c1, if_neg c2, if_neg c3, if_neg c4, if_neg c5, if_neg c6, if_neg c7, if_neg c8, if_neg c9, if_pos ca]
  by_cases cb : i = 11
  · simp only [if_neg c0, if_neg c1, if_neg c2, if_neg c3, if_neg c4, if_neg c5, if_neg c6, if_neg c7, if_neg c8, if_neg c9, if_neg ca, if_pos cb]
  by_cases cc : i = 12
  · simp only [if_neg c0, if_neg c1, if_neg c2, if_neg c3, if_neg c4, if_neg c5, if_neg c6, if_neg c7, if_neg c8, if_neg c9, if_neg ca, if_neg cb, if_pos cc]
  simp only [if_neg c0, if_neg c1, if_neg c2, if_neg c3, if_neg c4, if_neg c5, if_neg c6, if_neg c7, if_neg c8, if_neg c9, if_neg ca, if_neg cb, if_neg cc]
end D4

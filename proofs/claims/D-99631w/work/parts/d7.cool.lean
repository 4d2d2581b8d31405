/-! LAYER 3, the component: coolest, straight, singe, odds -/
set_option maxRecDepth 100000
def laidY (n best : Int) (y : yS) (X : Nat) : Prop := (best = -1 ∧ yf y X 13 = iI 0) ∨ (0 ≤ best ∧ yf y X 13 = iI n ∧ ∀ z, 0 ≤ z → z < n → ya y (X + 26) z.toNat = iI (dig best n z))
section D7
variable {G : ai_G} {O : Nat → Nat} {y : yS} {ρ : Rv} {x : Int → Int} {X r : Nat} {bd ld : Nat → Nat}
theorem laidY.fr {n best : Int} {y1 : yS} (h : laidY n best y X) (hS : xS O y X r) (f : yF O [2, 24, 104] 0 0 y y1) : laidY n best y1 X := by
  unfold laidY
  rw [x_f0 hS f 13 rfl, x_arr hS f 26 (by omega) (by omega) rfl]
  exact h
theorem laidY.of {n best : Int} (h0 : best = -1 ∨ 0 ≤ best) (h1 : yf y X 13 = iI (if best < 0 then 0 else n)) (h2 : 0 ≤ best → ∀ z, 0 ≤ z → z < n → ya y (X + 26) z.toNat = iI (dig best n z)) : laidY n best y X := by
  rcases h0 with h0 | h0
  · rw [if_pos (by omega)] at h1
    exact Or.inl ⟨h0, h1⟩
  · rw [if_neg (by omega)] at h1
    exact Or.inr ⟨h0, h1, h2 h0⟩
theorem c_coolest (h : XC G O y ρ x X r bd ld) (hw : wfR ρ) (hx : wfS ρ x) {b what : Int} (h1 : -2147483648 ≤ b) (h2 : b < 2147483648) (h3 : -2147483648 ≤ what) (h4 : what < 2147483648) : ∃ y', fy_B_coolest G y X (iI b) (iI what) = some (iI (if (0 ≤ b ∧ b < rB ρ) ∧ 0 ≤ what ∧ what ≤ 2 then coolV ρ x b what else -1), y') ∧ yF O [2, 24, 104, 112, 213, 10] 0 0 y y' ∧ (if (0 ≤ b ∧ b < rB ρ) ∧ 0 ≤ what ∧ what ≤ 2 then laidY (lft ρ x b) (bestN (coolC ρ x b) (p3 (lft ρ x b)).toNat).2 y' X else yf y' X 13 = iI 0) := by
  have f0 : yF O [2, 24, 104, 112, 213, 10] 0 0 y (sF y X 13 (iI 0)) := yF.refl.sf (by rw [x_lb h.1]; rfl)
  have hh := h.fr f0 rfl
  unfold fy_B_coolest
  rw [show (0 : Int32) = iI 0 from rfl, x_wI h.1 rfl, obs, x_c hh.1, obs, c_isBoard hh.1 hh.2.1 hw h1 h2, obs]
  by_cases hb : 0 ≤ b ∧ b < rB ρ
  rotate_left
  · refine ⟨sF y X 13 (iI 0), by simp only [if_neg hb, iI_lit, iI_add, iI_sub, iI_mul, iI_neg, obs, if_true, if_false, Int.reduceEq, Int.reduceLE, Int.reduceLT, Int.reduceAdd, Int.reduceSub, Int.reduceMul, Int.reduceNeg, Nat.reduceEqDiff, if_neg (show ¬ ((0 ≤ b ∧ b < rB ρ) ∧ 0 ≤ what ∧ what ≤ 2) from fun z => hb z.1)], f0, ?_⟩
    rw [if_neg (fun z => hb z.1), sF_get, if_pos ⟨rfl, rfl⟩]
  simp (disch := omega) only [if_pos hb, iI_lit, iI_add, iI_sub, iI_mul, iI_neg, obs, if_true, if_false, Int.reduceEq, Int.reduceLE, Int.reduceLT, Int.reduceAdd, Int.reduceSub, Int.reduceMul, Int.reduceNeg, Nat.reduceEqDiff, show ¬ iI 1 = iI 0 by decide, c_isIn]
  by_cases hq : 0 ≤ what ∧ what ≤ 2
  rotate_left
  · refine ⟨sF y X 13 (iI 0), by simp only [if_neg hq, iI_lit, iI_add, iI_sub, iI_mul, iI_neg, obs, if_true, if_false, Int.reduceEq, Int.reduceLE, Int.reduceLT, Int.reduceAdd, Int.reduceSub, Int.reduceMul, Int.reduceNeg, Nat.reduceEqDiff, if_neg (show ¬ ((0 ≤ b ∧ b < rB ρ) ∧ 0 ≤ what ∧ what ≤ 2) from fun z => hq z.2)], f0, ?_⟩
    rw [if_neg (fun z => hq z.2), sF_get, if_pos ⟨rfl, rfl⟩]
  obtain ⟨h1, h2⟩ := hb
  have h5 := lft_b hw hx h1 h2
  have hp := p3_le h5.2
  have hp0 := p3_pos (lft ρ x b)
  have hb4 : b < 4 := by have := hw.2.2.1; omega
  have hXn := hh.1.1.2.1
  have hk : ∀ k : Nat, coolC ρ x b k < 1000000 := fun k => (coolC_b hw hx h1 h2 k).2.1
  obtain ⟨y2, e2, f2, w0, w1, w2, w3⟩ := c_seek (G := G) (w := X + 28) (wl := 12) (C := coolC ρ x b) hh hw hx h1 h2 (Or.inl (x_t28 hh.1)) hh.1.2.2.2.2.2.1.1 (by omega) (x_o28 hh.1) (Or.inl rfl) (by omega) (fun v v1 v2 => by
    obtain ⟨c1, c2, c3, c4⟩ := coolC_b hw hx h1 h2 v
    refine ⟨c2, c3, fun hv => ⟨c1, fun u fu _ vu => ?_⟩⟩
    have hu := hh.fr fu rfl
    have a3 := s_a3 (x_th hu.1) vu h1 hb4
    have a2 := s_a2 (x_th hu.1) vu h1 hb4
    have b3 := s_a3 hu.2.2.1 hu.2.2.2 h1 hb4
    have ec : cl u (X + 28) = some 4 := by unfold cl; rw [x_t28 hu.1]
    have e3 : gR 4 3 u (X + 28) = some X := by unfold gR; rw [if_pos (x_t28 hu.1)]; exact hu.1.2.2.2.2.2.1.2.1
    rw [(c4 hv).2]
    simp only [fy_costOf, ec, fy_Coolest_costOf, s_3 (x_th hu.1), a3, e3, x_1 hu.1, s_3 hu.2.2.1, b3, s_2 (x_th hu.1), a2, iI_lit, iI_add, iI_sub, iI_mul, iI_neg, obs, if_true, if_false, Int.reduceEq, Int.reduceLE, Int.reduceLT, Int.reduceAdd, Int.reduceSub, Int.reduceMul, Int.reduceNeg, Nat.reduceEqDiff, if_true]
    rw [Int.mul_comm]) hk
  have hok := bestN_ok hk (p3 (lft ρ x b)).toNat
  have f2' := f0.t0 f2
  have hu2 := hh.fr f2 rfl
  have hlaid : laidY (lft ρ x b) (bestN (coolC ρ x b) (p3 (lft ρ x b)).toNat).2 y2 X := laidY.of (by omega) w2 w3
  simp only [if_pos hq, if_pos (show (0 ≤ b ∧ b < rB ρ) ∧ 0 ≤ what ∧ what ≤ 2 from ⟨⟨h1, h2⟩, hq⟩), iI_lit, iI_add, iI_sub, iI_mul, iI_neg, obs, if_true, if_false, Int.reduceEq, Int.reduceLE, Int.reduceLT, Int.reduceAdd, Int.reduceSub, Int.reduceMul, Int.reduceNeg, Nat.reduceEqDiff, show ¬ iI 1 = iI 0 by decide, x_14 hh.1, ck2_ok (Or.inl (x_t28 hh.1)), e2]
  unfold coolV
  generalize hB : bestN (coolC ρ x b) (p3 (lft ρ x b)).toNat = B at *
  by_cases hb0 : B.2 < 0
  · refine ⟨y2, ?_, f2', hlaid⟩
    simp only [if_pos hb0, iI_lit, iI_add, iI_sub, iI_mul, iI_neg, obs, if_true, if_false, Int.reduceEq, Int.reduceLE, Int.reduceLT, Int.reduceAdd, Int.reduceSub, Int.reduceMul, Int.reduceNeg, Nat.reduceEqDiff]
  · have hb1 : 0 ≤ B.2 ∧ B.2 < p3 (lft ρ x b) := by omega
    obtain ⟨y3, e3, f3, v3⟩ := c_goRow hu2 hw hx (b := b) (v := B.2) h1 h2 hb1.1 hb1.2
    have hu3 := hu2.fr f3 rfl
    have e13 : gI 0 13 y2 X = some (iI (lft ρ x b)) := by
      unfold gI
      rw [if_pos hu2.1.1.1, w2, if_neg hb0]
    have hcb := coolC_b hw hx h1 h2 B.2
    have hcost : B.1 = coolC ρ x b B.2 := by rcases hok with o | o <;> omega
    have hE := rowE_wf (v := B.2) hw hx h1 h2
    have h01 : (rowE ρ x b B.2).1 = 1 := by
      rcases hE.2 with h0 | h0
      · have := hcb.2.2.1 h0
        rcases hok with o | o <;> omega
      · exact h0
    obtain ⟨hc1, hc2⟩ := hcb.2.2.2 h01
    have hwf := hE.1.1 b h1 h2
    have a3 := s_a3 (x_th hu3.1) v3 h1 hb4
    have a2 := s_a2 (x_th hu3.1) v3 h1 hb4
    have a0 := s_a0 (x_th hu3.1) v3 h1 hb4
    have b3 := s_a3 hu3.2.2.1 hu3.2.2.2 h1 hb4
    refine ⟨y3, ?_, f2'.t0 (f3.m0 rfl), hlaid.fr hu2.1 f3⟩
    simp (disch := omega) only [if_neg hb0, iI_lit, iI_add, iI_sub, iI_mul, iI_neg, obs, if_true, if_false, Int.reduceEq, Int.reduceLE, Int.reduceLT, Int.reduceAdd, Int.reduceSub, Int.reduceMul, Int.reduceNeg, Nat.reduceEqDiff, show ¬ iI 1 = iI 0 by decide, x_14 hu2.1, gI2_ok (Or.inl (x_t28 hu2.1)), w0, e13, x_c hu2.1, e3, iI_le, iI_lt, iI_eq, x_2 hu3.1, s_3 (x_th hu3.1), a3, x_1 hu3.1, s_3 hu3.2.2.1, b3, s_2 (x_th hu3.1), a2, s_0 (x_th hu3.1), a0]
    by_cases q0 : what = 0
    · simp only [if_pos q0]
      congr 3
      omega
    · by_cases q1 : what = 1
      · simp only [if_neg q0, if_pos q1]
        congr 3
        omega
      · simp only [if_neg q0, if_neg q1]
theorem c_straight (h : XC G O y ρ x X r bd ld) (hw : wfR ρ) (hx : wfS ρ x) {b to : Int} (h1 : -2147483648 ≤ b) (h2 : b < 2147483648) (h3 : -2147483648 ≤ to) (h4 : to < 2147483648) : ∃ y', fy_B_straight G y X (iI b) (iI to) = some (iI (if (0 ≤ b ∧ b < rB ρ) ∧ 0 ≤ to ∧ to ≤ rC ρ - 1 then strtV ρ x b to else -1), y') ∧ yF O [2, 24, 104, 113, 213, 10] 0 0 y y' ∧ (if (0 ≤ b ∧ b < rB ρ) ∧ 0 ≤ to ∧ to ≤ rC ρ - 1 then laidY (lft ρ x b) (bestN (strC ρ x b to) (p3 (lft ρ x b)).toNat).2 y' X else yf y' X 13 = iI 0) := by
  have f0 : yF O [2, 24, 104, 113, 213, 10] 0 0 y (sF y X 13 (iI 0)) := yF.refl.sf (by rw [x_lb h.1]; rfl)
  have hh := h.fr f0 rfl
  have hC := hw.1
  unfold fy_B_straight
  rw [show (0 : Int32) = iI 0 from rfl, x_wI h.1 rfl, obs, x_c hh.1, obs, c_isBoard hh.1 hh.2.1 hw h1 h2, obs]
  by_cases hb : 0 ≤ b ∧ b < rB ρ
  rotate_left
  · refine ⟨sF y X 13 (iI 0), by simp only [if_neg hb, iI_lit, iI_add, iI_sub, iI_mul, iI_neg, obs, if_true, if_false, Int.reduceEq, Int.reduceLE, Int.reduceLT, Int.reduceAdd, Int.reduceSub, Int.reduceMul, Int.reduceNeg, Nat.reduceEqDiff, if_neg (show ¬ ((0 ≤ b ∧ b < rB ρ) ∧ 0 ≤ to ∧ to ≤ rC ρ - 1) from fun z => hb z.1)], f0, ?_⟩
    rw [if_neg (fun z => hb z.1), sF_get, if_pos ⟨rfl, rfl⟩]
  simp (disch := omega) only [if_pos hb, iI_lit, iI_add, iI_sub, iI_mul, iI_neg, obs, if_true, if_false, Int.reduceEq, Int.reduceLE, Int.reduceLT, Int.reduceAdd, Int.reduceSub, Int.reduceMul, Int.reduceNeg, Nat.reduceEqDiff, show ¬ iI 1 = iI 0 by decide, x_0 hh.1, r_col hh.2.1, c_isIn]
  by_cases hq : 0 ≤ to ∧ to ≤ rC ρ - 1
  rotate_left
  · refine ⟨sF y X 13 (iI 0), by simp only [if_neg hq, iI_lit, iI_add, iI_sub, iI_mul, iI_neg, obs, if_true, if_false, Int.reduceEq, Int.reduceLE, Int.reduceLT, Int.reduceAdd, Int.reduceSub, Int.reduceMul, Int.reduceNeg, Nat.reduceEqDiff, if_neg (show ¬ ((0 ≤ b ∧ b < rB ρ) ∧ 0 ≤ to ∧ to ≤ rC ρ - 1) from fun z => hq z.2)], f0, ?_⟩
    rw [if_neg (fun z => hq z.2), sF_get, if_pos ⟨rfl, rfl⟩]
  obtain ⟨h1, h2⟩ := hb
  have h5 := lft_b hw hx h1 h2
  have hp := p3_le h5.2
  have hp0 := p3_pos (lft ρ x b)
  have hb4 : b < 4 := by have := hw.2.2.1; omega
  have hl29 : lbF O (X + 29) 3 = 113 := by unfold lbF; rw [x_o29 h.1]; rfl
  have f1 : yF O [2, 24, 104, 113, 213, 10] 0 0 y (sF (sF y X 13 (iI 0)) (X + 29) 3 (iI to)) := f0.sf (by rw [hl29]; rfl)
  have h9 := h.fr f1 rfl
  have hXn := h9.1.1.2.1
  have hk : ∀ k : Nat, strC ρ x b to k < 1000000 := fun k => (strC_b hw hx h1 h2 k).1
  obtain ⟨y2, e2, f2, w0, w1, w2, w3⟩ := c_seek (G := G) (w := X + 29) (wl := 13) (C := strC ρ x b to) h9 hw hx h1 h2 (Or.inr (x_t29 h9.1)) h9.1.2.2.2.2.2.1.2.2 (by omega) (x_o29 h9.1) (Or.inr rfl) (by omega) (fun v v1 v2 => by
    obtain ⟨c1, c2, c3, c4⟩ := strC_b (to := to) hw hx h1 h2 v
    have ht := turnN_b v (lft ρ x b) (lft ρ x b).toNat
    have hcol := (rowE_wf (v := v) hw hx h1 h2).1.1 b h1 h2
    have hm1 : (rowE ρ x b v).1 = 1 → -1 ≤ strC ρ x b to v := fun hv => by
      by_cases c : (rowE ρ x b v).2 b = to
      · rw [c4 hv c]; omega
      · rw [c3 hv c]; omega
    refine ⟨c1, c2, fun hv => ⟨hm1 hv, fun u fu e3 vu => ?_⟩⟩
    have hu := h9.fr fu rfl
    have a0 := s_a0 (x_th hu.1) vu h1 hb4
    have ec : cl u (X + 29) = some 5 := by unfold cl; rw [x_t29 hu.1]
    have e3' : gI 5 3 u (X + 29) = some (iI to) := by
      unfold gI
      rw [if_pos (x_t29 hu.1), e3, sF_get, if_pos ⟨rfl, rfl⟩]
    simp (disch := omega) only [fy_costOf, ec, fy_Straightest_costOf, s_0 (x_th hu.1), a0, e3', iI_lit, iI_add, iI_sub, iI_mul, iI_neg, obs, if_true, if_false, Int.reduceEq, Int.reduceLE, Int.reduceLT, Int.reduceAdd, Int.reduceSub, Int.reduceMul, Int.reduceNeg, Nat.reduceEqDiff, iI_le, iI_lt, iI_eq, if_true, show ¬ (5 : Nat) = 4 by omega]
    by_cases c : (rowE ρ x b v).2 b = to
    · rw [if_pos c, c4 hv c]
    · rw [if_neg c, c3 hv c]) hk
  have hok := bestN_ok hk (p3 (lft ρ x b)).toNat
  have f2' := f1.t0 f2
  have hu2 := h9.fr f2 rfl
  have hlaid : laidY (lft ρ x b) (bestN (strC ρ x b to) (p3 (lft ρ x b)).toNat).2 y2 X := laidY.of (by omega) w2 w3
  have ew : wI 5 3 (sF y X 13 (iI 0)) (X + 29) (iI to) = some (sF (sF y X 13 (iI 0)) (X + 29) 3 (iI to)) := by
    unfold wI
    rw [if_pos (x_t29 hh.1)]
  have eck : ck 5 (sF (sF y X 13 (iI 0)) (X + 29) 3 (iI to)) (X + 29) = some () := if_pos (x_t29 h9.1)
  simp only [if_pos hq, if_pos (show (0 ≤ b ∧ b < rB ρ) ∧ 0 ≤ to ∧ to ≤ rC ρ - 1 from ⟨⟨h1, h2⟩, hq⟩), iI_lit, iI_add, iI_sub, iI_mul, iI_neg, obs, if_true, if_false, Int.reduceEq, Int.reduceLE, Int.reduceLT, Int.reduceAdd, Int.reduceSub, Int.reduceMul, Int.reduceNeg, Nat.reduceEqDiff, show ¬ iI 1 = iI 0 by decide, x_15 hh.1, ew, x_15 h9.1, eck, e2]
  unfold strtV
  generalize hB : bestN (strC ρ x b to) (p3 (lft ρ x b)).toNat = B at *
  refine ⟨y2, ?_, f2', hlaid⟩
  by_cases hb0 : B.2 < 0
  · simp only [if_pos hb0, iI_lit, iI_add, iI_sub, iI_mul, iI_neg, obs, if_true, if_false, Int.reduceEq, Int.reduceLE, Int.reduceLT, Int.reduceAdd, Int.reduceSub, Int.reduceMul, Int.reduceNeg, Nat.reduceEqDiff]
  · simp only [if_neg hb0, iI_lit, iI_add, iI_sub, iI_mul, iI_neg, obs, if_true, if_false, Int.reduceEq, Int.reduceLE, Int.reduceLT, Int.reduceAdd, Int.reduceSub, Int.reduceMul, Int.reduceNeg, Nat.reduceEqDiff, show ¬ iI 1 = iI 0 by decide, x_15 hu2.1, gI2_ok (Or.inr (x_t29 hu2.1)), w1 (by omega)]
theorem c_singeLoop (h : XC G O y ρ x X r bd ld) (hw : wfR ρ) (hx : wfS ρ x) {b : Int} (h1 : 0 ≤ b) (h2 : b < rB ρ) : ∀ (j : Nat) (u : yS) (t : Int → Int) (n : Int), yF O [2, 24, 104] 0 0 y u → vlY u (rL ρ) (X + 15) t → wfS ρ t → n + j = lft ρ x b + 1 → 1 ≤ n → t (4 + b) = x (4 + b) + n - 1 → ∃ q, lp (fy_B_singe_b23 G X (iI b)) (iI n, u) = some q ∧ ∃ y', Sum.elim (fun s => (iI (-1), s)) id q = (iI (sng ρ b j t n), y') ∧ yF O [2, 24, 104] 0 0 y y' := by
  have h5 := lft_b hw hx h1 h2
  have hb := hw.2.2.1
  intro j
  induction j with
  | zero =>
    intro u t n hf hay hy hn hn1 hrow
    have hu := h.fr hf rfl
    have e1 := c_left9 hu.1 hu.2.1 hu.2.2.1 hu.2.2.2 h1 (show b < 4 by omega)
    refine ⟨.inl u, lp_out ?_, u, rfl, hf⟩
    simp (disch := omega) only [fy_B_singe_b23, x_c hu.1, e1, iI_lit, iI_add, iI_sub, iI_mul, iI_neg, obs, if_true, if_false, Int.reduceEq, Int.reduceLE, Int.reduceLT, Int.reduceAdd, Int.reduceSub, Int.reduceMul, Int.reduceNeg, Nat.reduceEqDiff, iI_le, iI_lt, iI_eq]
    rw [if_pos (by omega)]
  | succ j ih =>
    intro u t n hf hay hy hn hn1 hrow
    have hu := h.fr hf rfl
    have e1 := c_left9 hu.1 hu.2.1 hu.2.2.1 hu.2.2.2 h1 (show b < 4 by omega)
    have hrr : lft ρ x b = rR ρ - x (4 + b) := rfl
    have hx1 := hx.1 b h1 h2
    obtain ⟨u2, e2, f2, a2⟩ := c_stroke (t := 0) (out := 1) (fl := 0) hu.2.1 hw (x_th hu.1) hay hy (Or.inr rfl) h1 h2 (by omega) (by omega) (Or.inr rfl) (Or.inl rfl) (by rw [on1]; omega) (by rw [on1]; omega)
    rw [on1, Int.add_zero] at e2 a2
    have f2' : yF O [2, 24, 104] 0 0 u u2 := f2.m0 rfl
    have hvr := strV_r (tt := 0) (on := 1) (k := 1) hw hy h1 h2 (by omega) (by omega)
    have hvb := strV_b (t := 0) (on := 1) (k := 1) hw hy h1 h2 (by omega) (by omega)
    have hwy := wfS_str (t := 0) (on := 1) (k := 1) hw hy h1 h2 (by omega) (by omega)
    have hbody : fy_B_singe_b23 G X (iI b) (iI n, u) = if strV ρ t b 0 1 1 = 0 then some (.inl (iI (n + 1), u2)) else if strV ρ t b 0 1 1 = 2 then some (.inr (.inr (iI n, u2))) else some (.inr (.inr (iI (-1), u2))) := by
      simp (disch := omega) only [fy_B_singe_b23, x_c hu.1, e1, iI_lit, iI_add, iI_sub, iI_mul, iI_neg, obs, if_true, if_false, Int.reduceEq, Int.reduceLE, Int.reduceLT, Int.reduceAdd, Int.reduceSub, Int.reduceMul, Int.reduceNeg, Nat.reduceEqDiff, iI_le, iI_lt, iI_eq, x_2 hu.1, x_0 hu.1, s_c (x_th hu.1), e2]
      rw [if_neg (by omega)]
    simp only [sng]
    by_cases v0 : strV ρ t b 0 1 1 = 0
    · rw [if_pos v0]
      rw [if_pos v0] at hbody
      have hH : strH ρ t b 0 1 1 = 0 := by
        obtain ⟨q1, q2⟩ := hvb
        rw [q1] at v0
        split at v0 <;> omega
      obtain ⟨q, eq, s', es, fs⟩ := ih u2 (strS ρ t b 0 1 1) (n + 1) (hf.t0 f2') a2 hwy (by omega) (by omega) (by rw [str_row h1 (by omega), if_pos hH]; omega)
      exact ⟨q, by rw [lp_back hbody]; exact eq, s', es, fs⟩
    · rw [if_neg v0]
      rw [if_neg v0] at hbody
      by_cases v2 : strV ρ t b 0 1 1 = 2
      · rw [if_pos v2]
        rw [if_pos v2] at hbody
        exact ⟨_, lp_out hbody, u2, rfl, hf.t0 f2'⟩
      · rw [if_neg v2]
        rw [if_neg v2] at hbody
        exact ⟨_, lp_out hbody, u2, rfl, hf.t0 f2'⟩
theorem c_singe (h : XC G O y ρ x X r bd ld) (hw : wfR ρ) (hx : wfS ρ x) {b : Int} (h1 : -2147483648 ≤ b) (h2 : b < 2147483648) : ∃ y', fy_B_singe G y X (iI b) = some (iI (if 0 ≤ b ∧ b < rB ρ then sng ρ b (lft ρ x b).toNat x 1 else -1), y') ∧ yF O [2, 24, 104] 0 0 y y' := by
  unfold fy_B_singe
  rw [x_c h.1, obs, c_isBoard h.1 h.2.1 hw h1 h2, obs]
  by_cases hb : 0 ≤ b ∧ b < rB ρ
  rotate_left
  · exact ⟨y, by simp only [if_neg hb, iI_lit, iI_add, iI_sub, iI_mul, iI_neg, obs, if_true, if_false, Int.reduceEq, Int.reduceLE, Int.reduceLT, Int.reduceAdd, Int.reduceSub, Int.reduceMul, Int.reduceNeg, Nat.reduceEqDiff], yF.refl⟩
  obtain ⟨h1, h2⟩ := hb
  have h5 := lft_b hw hx h1 h2
  have hl := hw.2.2.2.1
  obtain ⟨y1, e1, f1, v1⟩ := c_stOf (G := G) (x_th h.1) h.2.2.1 h.2.2.2 (by omega) (by omega) rfl
  obtain ⟨q, eq, y', e', f'⟩ := c_singeLoop h hw hx h1 h2 (lft ρ x b).toNat y1 x 1 (f1.m0 rfl) v1 hx (by omega) (by omega) (by omega)
  refine ⟨y', ?_, f'⟩
  simp only [if_pos (And.intro h1 h2), iI_lit, iI_add, iI_sub, iI_mul, iI_neg, obs, if_true, if_false, Int.reduceEq, Int.reduceLE, Int.reduceLT, Int.reduceAdd, Int.reduceSub, Int.reduceMul, Int.reduceNeg, Nat.reduceEqDiff, show ¬ iI 1 = iI 0 by decide, x_2 h.1, x_1 h.1, s_c (x_th h.1), e1]
  rw [eq]
  cases q with
  | inl q => exact congrArg some e'
  | inr q => exact congrArg some e'
/-- the product of odds -/
def flP (ρ : Rv) (S : Int) : Nat → Int
  | 0 => 1
  | k + 1 => flP ρ S k * (if bit S k = 0 then 100 - rF ρ else rF ρ)
theorem flP_pow (S : Int) (k : Nat) : flP ρ S k = rF ρ ^ (membN S k).toNat * (100 - rF ρ) ^ ((k : Int) - membN S k).toNat := by
  induction k with
  | zero => simp [flP, membN]
  | succ k ih =>
    have hm := membN_b S k
    simp only [flP, membN]
    rw [ih]
    rcases bit_01 S k with hb | hb
    · rw [if_pos hb, hb, Int.add_zero, show (((k + 1 : Nat) : Int) - membN S k).toNat = ((k : Int) - membN S k).toNat + 1 by omega, Int.pow_succ, Int.mul_assoc]
    · rw [if_neg (by omega), hb, show (membN S k + 1).toNat = (membN S k).toNat + 1 by omega, show (((k + 1 : Nat) : Int) - (membN S k + 1)).toNat = ((k : Int) - membN S k).toNat by omega, Int.pow_succ, Int.mul_assoc, Int.mul_assoc, Int.mul_comm (rF ρ)]
theorem memb8_tab : ∀ n : Fin 5, ∀ S : Fin 16, S.val < 2 ^ n.val → membN S.val 8 = membN S.val n.val := by decide +kernel
theorem memb8 {n S : Int} (h1 : 0 ≤ n) (h2 : n ≤ 4) (h3 : 0 ≤ S) (h4 : S < pw n) : membN S 8 = membN S n.toNat := by
  obtain ⟨n', rfl⟩ : ∃ k : Nat, n = k := ⟨n.toNat, by omega⟩
  obtain ⟨S', rfl⟩ : ∃ k : Nat, S = k := ⟨S.toNat, by omega⟩
  have h5 := pw_4 h2
  rw [pw_nat] at h4
  have := memb8_tab ⟨n', by omega⟩ ⟨S', by rw [pw_nat] at h5; omega⟩ (by simpa using Int.ofNat_lt.mp h4)
  simpa using this
theorem flP_b (hw : wfR ρ) (S : Int) (k : Nat) : 0 ≤ flP ρ S k ∧ flP ρ S k ≤ 100 ^ k := by
  have hF := hw.2.2.2.2.1
  induction k with
  | zero => exact ⟨by show (0 : Int) ≤ 1; omega, by show (1 : Int) ≤ 100 ^ 0; decide⟩
  | succ k ih =>
    simp only [flP]
    have h1 : 0 ≤ (if bit S k = 0 then 100 - rF ρ else rF ρ) ∧ (if bit S k = 0 then 100 - rF ρ else rF ρ) ≤ 100 := by split <;> omega
    exact ⟨Int.mul_nonneg ih.1 h1.1, by rw [Int.pow_succ]; exact Int.mul_le_mul ih.2 h1.2 h1.1 (Int.le_trans ih.1 ih.2)⟩
theorem c_landsBy (h : XC G O y ρ x X r bd ld) (hw : wfR ρ) (hx : wfS ρ x) {b c S : Int} (h1 : 0 ≤ b) (h2 : b < rB ρ) (h3 : 0 ≤ c) (h4 : c < 8) (h6 : 0 ≤ S) (h7 : S < 256) (hn4 : lft ρ x b ≤ 4) : ∃ y', fy_B_landsBy G y X (iI b) (iI c) (iI (lft ρ x b)) (iI S) = some (iI (if fland ρ x b c S = 0 then 0 else flP ρ S (lft ρ x b).toNat), y') ∧ yF O [2, 24, 104] 0 0 y y' := by
  have h5 := lft_b hw hx h1 h2
  have hl := hw.2.2.2.1
  have hF := hw.2.2.2.2.1
  have hx1 := hx.1 b h1 h2
  have hb4 : b < 4 := by have := hw.2.2.1; omega
  have hrr : lft ρ x b = rR ρ - x (4 + b) := rfl
  obtain ⟨y1, e1, f1, v1⟩ := c_stOf (G := G) (x_th h.1) h.2.2.1 h.2.2.2 (by omega) (by omega) rfl
  have f1' : yF O [2, 24, 104] 0 0 y y1 := f1.m0 rfl
  unfold fland flR
  generalize hn : lft ρ x b = n at *
  have hloop : ∃ q, lp (fy_B_landsBy_b17 G X (iI b) (iI c) (iI n) (iI S)) (iI 1, iI 0, y1) = some q ∧ ((∃ u, q = .inl (iI (flP ρ S n.toNat), u) ∧ yF O [2, 24, 104] 0 0 y u ∧ vlY u (rL ρ) (X + 15) (genR ρ x b (fun _ => 0) (fun k => 1 + bit S k) n.toNat).2 ∧ (genR ρ x b (fun _ => 0) (fun k => 1 + bit S k) n.toNat).1 = 1) ∨ (∃ u, q = .inr (iI 0, u) ∧ yF O [2, 24, 104] 0 0 y u ∧ (genR ρ x b (fun _ => 0) (fun k => 1 + bit S k) n.toNat).1 = 0)) := by
    refine lp_inv (fun i q => q.1 = iI (flP ρ S i) ∧ q.2.1 = iI i ∧ yF O [2, 24, 104] 0 0 y q.2.2 ∧ vlY q.2.2 (rL ρ) (X + 15) (genR ρ x b (fun _ => 0) (fun k => 1 + bit S k) i).2 ∧ (genR ρ x b (fun _ => 0) (fun k => 1 + bit S k) i).1 = 1) n.toNat ?_ ?_ ⟨rfl, rfl, f1', v1, rfl⟩
    · rintro i ⟨o, k, u⟩ hi ⟨g1, g2, g3, g4, g5⟩
      simp only at g1 g2 g3 g4 g5
      subst g1 g2
      have hu := h.fr g3 rfl
      obtain ⟨w1, w2, w3⟩ := genR_wf (t := fun _ => 0) (f := fun k => 1 + bit S k) hw hx h1 h2 i (by omega)
      have hrow := w2 g5
      have hb01 := bit_01 S i
      have ehas := c_Bhas (S := S) (l := i) (by omega) (by omega) h6 h7
      obtain ⟨u2, e2, f2, v2⟩ := c_stroke (t := 0) (out := 1) (fl := bit S i) hu.2.1 hw (x_th hu.1) g4 w1 (Or.inr rfl) h1 h2 (by omega) (by omega) (Or.inr rfl) hb01 (by rw [on1]; omega) (by rw [on1]; omega)
      rw [on1] at e2 v2
      have hr := strV_r (tt := 0) (k := 1 + bit S i) hw w1 h1 h2 (on := 1) (by omega) (by omega)
      have f2' : yF O [2, 24, 104] 0 0 u u2 := f2.m0 rfl
      have erm := rm_i (a := strV ρ (genR ρ x b (fun _ => 0) (fun k => 1 + bit S k) i).2 b 0 1 (1 + bit S i)) (b := 2) hr.1 (by omega) (by omega) (by omega)
      have hsuc : genR ρ x b (fun _ => 0) (fun k => 1 + bit S k) (i + 1) = (if strV ρ (genR ρ x b (fun _ => 0) (fun k => 1 + bit S k) i).2 b 0 1 (1 + bit S i) % 2 = 0 then 1 else 0, strS ρ (genR ρ x b (fun _ => 0) (fun k => 1 + bit S k) i).2 b 0 1 (1 + bit S i)) := by
        show (if (genR ρ x b (fun _ => 0) (fun k => 1 + bit S k) i).1 = 0 then _ else _) = _
        rw [if_neg (by omega)]
      have hj : fy_B_landsBy_b17 G X (iI b) (iI c) (iI n) (iI S) (iI (flP ρ S i), iI i, u) = fy_B_landsBy_j59 G u X (iI b) (iI c) (iI n) (iI S) (iI i) (iI (bit S i)) (iI (flP ρ S i)) (iI (if bit S i = 0 then 100 - rF ρ else rF ρ)) := by
        simp (disch := omega) only [fy_B_landsBy_b17, iI_lit, iI_add, iI_sub, iI_mul, iI_neg, obs, if_true, if_false, Int.reduceEq, Int.reduceLE, Int.reduceLT, Int.reduceAdd, Int.reduceSub, Int.reduceMul, Int.reduceNeg, Nat.reduceEqDiff, iI_le, iI_lt, iI_eq, ehas, x_0 hu.1, r_fl hu.2.1]
        rw [if_neg (by omega)]
        split <;> rfl
      by_cases hz : strV ρ (genR ρ x b (fun _ => 0) (fun k => 1 + bit S k) i).2 b 0 1 (1 + bit S i) % 2 = 0
      · left
        rw [if_pos hz] at hsuc
        refine ⟨(iI (flP ρ S (i + 1)), iI ((i : Int) + 1), u2), ?_, rfl, rfl, g3.t0 f2', by rw [hsuc]; exact v2, by rw [hsuc]⟩
        rw [hj]
        simp (disch := omega) only [fy_B_landsBy_j59, iI_lit, iI_add, iI_sub, iI_mul, iI_neg, obs, if_true, if_false, Int.reduceEq, Int.reduceLE, Int.reduceLT, Int.reduceAdd, Int.reduceSub, Int.reduceMul, Int.reduceNeg, Nat.reduceEqDiff, iI_le, iI_lt, iI_eq, x_2 hu.1, x_0 hu.1, s_c (x_th hu.1), e2]
        rw [erm, obs]
        simp (disch := omega) only [hz, iI_lit, iI_add, iI_sub, iI_mul, iI_neg, obs, if_true, if_false, Int.reduceEq, Int.reduceLE, Int.reduceLT, Int.reduceAdd, Int.reduceSub, Int.reduceMul, Int.reduceNeg, Nat.reduceEqDiff, iI_le, iI_lt, iI_eq, flP]
      · right
        have hz1 : strV ρ (genR ρ x b (fun _ => 0) (fun k => 1 + bit S k) i).2 b 0 1 (1 + bit S i) % 2 = 1 := by omega
        rw [if_neg hz] at hsuc
        have hE : genR ρ x b (fun _ => 0) (fun k => 1 + bit S k) n.toNat = genR ρ x b (fun _ => 0) (fun k => 1 + bit S k) (i + 1) := by
          have := genR_stop (ρ := ρ) (x := x) (b := b) (t := fun _ => 0) (f := fun k => 1 + bit S k) (i + 1) (n.toNat - (i + 1)) (by rw [hsuc])
          rwa [show i + 1 + (n.toNat - (i + 1)) = n.toNat by omega] at this
        refine ⟨.inr (iI 0, u2), ?_, Or.inr ⟨u2, rfl, g3.t0 f2', by rw [hE, hsuc]⟩⟩
        rw [hj]
        simp (disch := omega) only [fy_B_landsBy_j59, iI_lit, iI_add, iI_sub, iI_mul, iI_neg, obs, if_true, if_false, Int.reduceEq, Int.reduceLE, Int.reduceLT, Int.reduceAdd, Int.reduceSub, Int.reduceMul, Int.reduceNeg, Nat.reduceEqDiff, iI_le, iI_lt, iI_eq, x_2 hu.1, x_0 hu.1, s_c (x_th hu.1), e2]
        rw [erm, obs]
        simp (disch := omega) only [hz1, iI_lit, iI_add, iI_sub, iI_mul, iI_neg, obs, if_true, if_false, Int.reduceEq, Int.reduceLE, Int.reduceLT, Int.reduceAdd, Int.reduceSub, Int.reduceMul, Int.reduceNeg, Nat.reduceEqDiff, iI_le, iI_lt, iI_eq]
    · rintro ⟨o, k, u⟩ ⟨g1, g2, g3, g4, g5⟩
      simp only at g1 g2 g3 g4 g5
      subst g1 g2
      refine ⟨.inl (iI (flP ρ S n.toNat), u), ?_, Or.inl ⟨u, rfl, g3, g4, g5⟩⟩
      simp (disch := omega) only [fy_B_landsBy_b17, iI_lit, iI_add, iI_sub, iI_mul, iI_neg, obs, if_true, if_false, Int.reduceEq, Int.reduceLE, Int.reduceLT, Int.reduceAdd, Int.reduceSub, Int.reduceMul, Int.reduceNeg, Nat.reduceEqDiff, iI_le, iI_lt, iI_eq]
      rw [if_pos (by omega)]
  obtain ⟨q, eq, hq⟩ := hloop
  have e9 : fy_B_landsBy G y X (iI b) (iI c) (iI n) (iI S) = (lp (fy_B_landsBy_b17 G X (iI b) (iI c) (iI n) (iI S)) (iI 1, iI 0, y1)).bind (Sum.elim (fun q17 =>
    (gR 0 2 q17.2 X).bind fun x93 =>
    (gR 2 0 q17.2 x93).bind fun x96 =>
    (aI q17.2 x96 (iI b)).bind fun x100 =>
    if x100 = (iI c) then (
      some (q17.1, q17.2))
    else (
      some (0, q17.2))) (fun q17r => some q17r)) := by
    unfold fy_B_landsBy
    rw [x_2 h.1, obs, x_1 h.1, obs, s_c (x_th h.1), obs, e1, obs]
    rfl
  rw [e9, eq]
  rcases hq with ⟨u, rfl, fu, vu, h0⟩ | ⟨u, rfl, fu, h0⟩
  · have hu := h.fr fu rfl
    have hwf := (genR_wf (t := fun _ => 0) (f := fun k => 1 + bit S k) hw hx h1 h2 n.toNat (by omega)).1.1 b h1 h2
    have a0 := s_a0 (x_th hu.1) vu h1 hb4
    have hCC := hw.1
    refine ⟨u, ?_, fu⟩
    simp (disch := omega) only [obs, Sum.elim_inl, x_2 hu.1, s_0 (x_th hu.1), a0, iI_lit, iI_add, iI_sub, iI_mul, iI_neg, obs, if_true, if_false, Int.reduceEq, Int.reduceLE, Int.reduceLT, Int.reduceAdd, Int.reduceSub, Int.reduceMul, Int.reduceNeg, Nat.reduceEqDiff, iI_le, iI_lt, iI_eq, h0, show ¬ (1 : Int) = 0 by omega]
    by_cases hc : (genR ρ x b (fun _ => 0) (fun k => 1 + bit S k) n.toNat).2 b = c
    · simp only [if_pos hc, show ¬ (1 : Int) = 0 by omega, if_false]
    · simp only [if_neg hc, if_true]
  · refine ⟨u, ?_, fu⟩
    simp only [obs, Sum.elim_inr, h0, if_true]
theorem c_common : ∀ (k m : Nat) (a b : Int), 0 ≤ a → a < 2147483648 → 0 ≤ b → b < ((2 ^ k : Nat) : Int) → k ≤ 31 → 2 * k + 1 ≤ m → fy_B_common_N m (iI a) (iI b) = some (iI (Int.gcd a b)) := by
  have gz : ∀ a : Int, 0 ≤ a → iI a = iI (Int.gcd a 0) := fun a ha => by
    simp only [Int.gcd_zero]
    congr 1
    omega
  have gs : ∀ c d : Int, 0 ≤ c → 0 < d → Int.gcd d (c % d) = Int.gcd c d := fun c d hc hd => by
    obtain ⟨c', rfl⟩ : ∃ c' : Nat, c = c' := ⟨c.toNat, by omega⟩
    obtain ⟨d', rfl⟩ : ∃ d' : Nat, d = d' := ⟨d.toNat, by omega⟩
    have e : ((c' : Int) % (d' : Int)) = ((c' % d' : Nat) : Int) := by omega
    rw [e]
    simp only [Int.gcd_natCast_natCast]
    rw [Nat.gcd_comm c' d', Nat.gcd_rec d' c', Nat.gcd_comm]
  have base : ∀ (m : Nat) (a : Int), 0 ≤ a → 1 ≤ m → fy_B_common_N m (iI a) (iI 0) = some (iI (Int.gcd a 0)) := by
    intro m a ha hm
    obtain ⟨m, rfl⟩ : ∃ j, m = j + 1 := ⟨m - 1, by omega⟩
    show fy_B_common (fy_B_common_N m) (iI a) (iI 0) = _
    unfold fy_B_common
    rw [i0, if_pos rfl, ← gz a ha]
  have step : ∀ (m : Nat) (a b : Int), 0 ≤ a → a < 2147483648 → 0 < b → b < 2147483648 → fy_B_common_N (m + 1) (iI a) (iI b) = fy_B_common_N m (iI b) (iI (a % b)) := by
    intro m a b h1 h2 h3 h4
    show fy_B_common (fy_B_common_N m) (iI a) (iI b) = _
    unfold fy_B_common
    rw [i0, if_neg (by rw [iI_eq (by omega) (by omega) (by omega) (by omega)]; omega), rm_i h1 h2 h3 h4, obs]
    cases fy_B_common_N m (iI b) (iI (a % b)) <;> rfl
  intro k
  induction k with
  | zero =>
    intro m a b h1 h2 h3 h4 _ hm
    obtain rfl : b = 0 := by simp at h4; omega
    exact base m a h1 (by omega)
  | succ k ih =>
    intro m a b h1 h2 h3 h4 hk hm
    have h31 : (2 : Nat) ^ (k + 1) ≤ 2 ^ 31 := Nat.pow_le_pow_right (by omega) hk
    have h231 : (2 : Nat) ^ 31 = 2147483648 := by decide
    have hb : b < 2147483648 := by omega
    by_cases hb0 : b = 0
    · subst hb0
      exact base m a h1 (by omega)
    · obtain ⟨m, rfl⟩ : ∃ j, m = j + 2 := ⟨m - 2, by omega⟩
      have m1 := Int.emod_nonneg a (show b ≠ 0 by omega)
      have m2 := Int.emod_lt_of_pos a (show 0 < b by omega)
      rw [step (m + 1) a b h1 h2 (by omega) hb, ← gs a b h1 (by omega)]
      by_cases hr0 : a % b = 0
      · rw [hr0]
        exact base (m + 1) b h3 (by omega)
      · rw [step m b (a % b) h3 hb (by omega) (by omega), ← gs b (a % b) h3 (by omega)]
        have m3 := Int.emod_nonneg b (show a % b ≠ 0 by omega)
        have m4 := Int.emod_lt_of_pos b (show 0 < a % b by omega)
        refine ih m (a % b) (b % (a % b)) m1 (by omega) m3 ?_ (by omega) (by omega)
        have e1 := Int.emod_add_mul_ediv b (a % b)
        have q1 : 1 ≤ b / (a % b) := by
          have := Int.ediv_nonneg h3 m1
          by_cases hz : b / (a % b) = 0
          · rw [hz, Int.mul_zero] at e1
            omega
          · omega
        have q2 : a % b * 1 ≤ a % b * (b / (a % b)) := Int.mul_le_mul_of_nonneg_left q1 m1
        have h5 : ((2 ^ (k + 1) : Nat) : Int) = 2 * ((2 ^ k : Nat) : Int) := by rw [Nat.pow_succ]; omega
        omega
theorem c_odds (h : XC G O y ρ x X r bd ld) (hw : wfR ρ) (hx : wfS ρ x) {b c part : Int} (h1 : -2147483648 ≤ b) (h2 : b < 2147483648) (h3 : -2147483648 ≤ c) (h4 : c < 2147483648) (h5 : -2147483648 ≤ part) (h6 : part < 2147483648) : ∃ y', fy_B_odds G y X (iI b) (iI c) (iI part) = some (iI (if (0 ≤ b ∧ b < rB ρ) ∧ lft ρ x b ≤ 4 ∧ (0 ≤ c ∧ c ≤ rC ρ - 1) ∧ 0 ≤ part ∧ part ≤ 1 then oddV ρ x b c part else -1), y') ∧ yF O [2, 24, 104] 0 0 y y' := by
  have hC := hw.1
  unfold fy_B_odds
  rw [x_c h.1, obs, c_isBoard h.1 h.2.1 hw h1 h2, obs]
  by_cases hb : 0 ≤ b ∧ b < rB ρ
  rotate_left
  · exact ⟨y, by rw [if_neg (show ¬ ((0 ≤ b ∧ b < rB ρ) ∧ lft ρ x b ≤ 4 ∧ (0 ≤ c ∧ c ≤ rC ρ - 1) ∧ 0 ≤ part ∧ part ≤ 1) from fun z => hb z.1)]; simp only [if_neg hb, iI_lit, iI_add, iI_sub, iI_mul, iI_neg, obs, if_true, if_false, Int.reduceEq, Int.reduceLE, Int.reduceLT, Int.reduceAdd, Int.reduceSub, Int.reduceMul, Int.reduceNeg, Nat.reduceEqDiff], yF.refl⟩
  simp (disch := omega) only [if_pos hb, iI_lit, iI_add, iI_sub, iI_mul, iI_neg, obs, if_true, if_false, Int.reduceEq, Int.reduceLE, Int.reduceLT, Int.reduceAdd, Int.reduceSub, Int.reduceMul, Int.reduceNeg, Nat.reduceEqDiff, show ¬ iI 1 = iI 0 by decide, x_0 h.1, r_col h.2.1, c_isIn]
  by_cases hc : 0 ≤ c ∧ c ≤ rC ρ - 1
  rotate_left
  · exact ⟨y, by rw [if_neg (show ¬ ((0 ≤ b ∧ b < rB ρ) ∧ lft ρ x b ≤ 4 ∧ (0 ≤ c ∧ c ≤ rC ρ - 1) ∧ 0 ≤ part ∧ part ≤ 1) from fun z => hc z.2.2.1)]; simp only [if_neg hc, iI_lit, iI_add, iI_sub, iI_mul, iI_neg, obs, if_true, if_false, Int.reduceEq, Int.reduceLE, Int.reduceLT, Int.reduceAdd, Int.reduceSub, Int.reduceMul, Int.reduceNeg, Nat.reduceEqDiff], yF.refl⟩
  simp only [if_pos hc, iI_lit, iI_add, iI_sub, iI_mul, iI_neg, obs, if_true, if_false, Int.reduceEq, Int.reduceLE, Int.reduceLT, Int.reduceAdd, Int.reduceSub, Int.reduceMul, Int.reduceNeg, Nat.reduceEqDiff, show ¬ iI 1 = iI 0 by decide]
  by_cases hq : 0 ≤ part ∧ part ≤ 1
  rotate_left
  · exact ⟨y, by rw [if_neg (show ¬ ((0 ≤ b ∧ b < rB ρ) ∧ lft ρ x b ≤ 4 ∧ (0 ≤ c ∧ c ≤ rC ρ - 1) ∧ 0 ≤ part ∧ part ≤ 1) from fun z => hq z.2.2.2)]; simp only [if_neg hq, iI_lit, iI_add, iI_sub, iI_mul, iI_neg, obs, if_true, if_false, Int.reduceEq, Int.reduceLE, Int.reduceLT, Int.reduceAdd, Int.reduceSub, Int.reduceMul, Int.reduceNeg, Nat.reduceEqDiff], yF.refl⟩
  obtain ⟨h1, h2⟩ := hb
  have h7 := lft_b hw hx h1 h2
  have hb4 : b < 4 := by have := hw.2.2.1; omega
  have e0 := c_left9 h.1 h.2.1 h.2.2.1 h.2.2.2 h1 hb4
  simp (disch := omega) only [if_pos hq, iI_lit, iI_add, iI_sub, iI_mul, iI_neg, obs, if_true, if_false, Int.reduceEq, Int.reduceLE, Int.reduceLT, Int.reduceAdd, Int.reduceSub, Int.reduceMul, Int.reduceNeg, Nat.reduceEqDiff, show ¬ iI 1 = iI 0 by decide, x_c h.1, e0, iI_le, iI_lt, iI_eq]
  by_cases hn4 : lft ρ x b ≤ 4
  rotate_left
  · exact ⟨y, by rw [if_neg (show ¬ ((0 ≤ b ∧ b < rB ρ) ∧ lft ρ x b ≤ 4 ∧ (0 ≤ c ∧ c ≤ rC ρ - 1) ∧ 0 ≤ part ∧ part ≤ 1) from fun z => hn4 z.2.1), if_neg hn4], yF.refl⟩
  have hpw := pw_4 hn4
  have hpp := pw_pos (lft ρ x b)
  have es := shl_i (l := lft ρ x b) h7.1 (by omega)
  have : ∃ q, lp (fy_B_odds_b58 G X (iI b) (iI c) (iI part) (iI (lft ρ x b))) (iI 0, iI 0, y) = some q ∧ (q.1 = iI (oddN ρ x b c (pw (lft ρ x b)).toNat) ∧ yF O [2, 24, 104] 0 0 y q.2) := by
    refine lp_inv (fun i q => q.1 = iI (oddN ρ x b c i) ∧ q.2.1 = iI i ∧ yF O [2, 24, 104] 0 0 y q.2.2) (pw (lft ρ x b)).toNat ?_ ?_ ⟨rfl, rfl, yF.refl⟩
    · rintro i ⟨a, k, u⟩ hi ⟨g1, g2, g3⟩
      simp only at g1 g2 g3
      subst g1 g2
      have hu := h.fr g3 rfl
      obtain ⟨u2, e1, f1⟩ := c_landsBy hu hw hx (b := b) (c := c) (S := i) h1 h2 hc.1 (by omega) (by omega) (by omega) hn4
      have eW : flP ρ i (lft ρ x b).toNat = flW ρ (lft ρ x b) i := by
        rw [flP_pow]
        unfold flW
        rw [memb8 h7.1 hn4 (by omega) (by omega), show (((lft ρ x b).toNat : Nat) : Int) = lft ρ x b by omega]
      rw [eW] at e1
      left
      refine ⟨(iI (oddN ρ x b c (i + 1)), iI ((i : Int) + 1), u2), ?_, rfl, rfl, g3.t0 f1⟩
      simp (disch := omega) only [fy_B_odds_b58, iI_lit, iI_add, iI_sub, iI_mul, iI_neg, obs, if_true, if_false, Int.reduceEq, Int.reduceLE, Int.reduceLT, Int.reduceAdd, Int.reduceSub, Int.reduceMul, Int.reduceNeg, Nat.reduceEqDiff, es, iI_le, iI_lt, iI_eq, x_c hu.1, e1, oddN]
      rw [if_neg (by omega)]
    · rintro ⟨a, k, u⟩ ⟨g1, g2, g3⟩
      simp only at g1 g2 g3
      subst g1 g2
      refine ⟨(iI (oddN ρ x b c (pw (lft ρ x b)).toNat), u), ?_, rfl, g3⟩
      simp (disch := omega) only [fy_B_odds_b58, iI_lit, iI_add, iI_sub, iI_mul, iI_neg, obs, if_true, if_false, Int.reduceEq, Int.reduceLE, Int.reduceLT, Int.reduceAdd, Int.reduceSub, Int.reduceMul, Int.reduceNeg, Nat.reduceEqDiff, es, iI_le, iI_lt, iI_eq]
      rw [if_pos (by omega)]
  obtain ⟨q, eq, g1, g2⟩ := this
  refine ⟨q.2, ?_, g2⟩
  have hob := oddN_b (x := x) (b := b) (c := c) hw ⟨h7.1, hn4⟩ (pw (lft ρ x b)).toNat (by omega)
  have h100 := pow100_4 (n := (lft ρ x b).toNat) (by omega)
  have ep : fy_B_power (iI 100) (iI (lft ρ x b)) = some (iI (100 ^ (lft ρ x b).toNat)) := c_power (by omega) (by omega)
  rw [if_pos (show (0 ≤ b ∧ b < rB ρ) ∧ lft ρ x b ≤ 4 ∧ (0 ≤ c ∧ c ≤ rC ρ - 1) ∧ 0 ≤ part ∧ part ≤ 1 from ⟨⟨h1, h2⟩, hn4, hc, hq⟩), if_pos hn4, eq]
  rw [obs, g1, ep, obs]
  unfold oddV
  simp only
  generalize oddN ρ x b c (pw (lft ρ x b)).toNat = own at *
  generalize (100 : Int) ^ (lft ρ x b).toNat = all at *
  have hown : own < 2147483648 := by omega
  have h231 : (2 : Nat) ^ 31 = 2147483648 := by decide
  have eg := c_common 31 64 all own (by omega) (by omega) (by omega) (by omega) (by omega) (by omega)
  have hg1 : (0 : Int) < (Int.gcd all own : Int) := by
    have : 0 < Int.gcd all own := Int.gcd_pos_of_ne_zero_left _ (by omega)
    omega
  have hg2 : (Int.gcd all own : Int) ≤ all := Int.le_of_dvd (by omega) (Int.gcd_dvd_left _ _)
  simp (disch := omega) only [eg, iI_le, iI_lt, iI_eq, obs]
  by_cases hp0 : part = 0
  · rw [if_pos hp0, if_pos hp0, dv_i (by omega) (by omega) hg1 (by omega)]
    rfl
  · rw [if_neg hp0, if_neg hp0, dv_i (by omega) (by omega) hg1 (by omega)]
    rfl
end D7

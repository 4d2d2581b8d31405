/-! LAYER 3, the component: acts -/
set_option maxRecDepth 100000
def pNow : List Nat := [5, 4, 12, 13, 22, 1, 101, 3, 205, 206, 207, 208, 213, 6, 10, 14, 8, 108, 9, 109, 26, 27, 127, 47, 25, 18, 118, 28, 128]
section E0
variable {G : ai_G} {O : Nat → Nat} {L : List Nat} {c d : Nat} {y y1 : yS} {μ : Mu} {X r : Nat} {bd ld : Nat → Nat} {K : Int → Nat} {sg : Nat → Nat}
theorem XQ.now {x' : Int → Int} (h : XQ G O y μ X r bd ld K sg) (f : yF O L c d y y1) (hL : L.all (fun k => !(pNow.contains k)) = true) (hv : vlY y1 (rL (uR μ)) (X + 8) x') : XQ G O y1 (uNow μ x') X r bd ld K sg := by
  obtain ⟨hS, hR, ⟨hN, hV⟩, hI, hT, hl, hW, hK, hB, hG⟩ := h
  exact ⟨hS.fr f (all_sub hL rfl), hR.fr f (off_all hL rfl) (off_all hL rfl), ⟨hN.fr f (off_all hL rfl), hv⟩, hI.fr hS f (all_sub hL rfl), hT.fr hS f (off_all hL rfl), hl.fr hS f (off_all hL rfl), hW.fr hS f (off_all hL rfl), hK.fr f (all_sub hL rfl), hB.fr hS f (all_sub hL rfl), hG.fr f (all_sub hL rfl)⟩
theorem X_stroke (hG : okG G) (h : XR G y μ X) (hw : wfM μ) {b t out : Int} (h1 : -2147483648 ≤ b) (h2 : b < 2147483648) (h3 : -2147483648 ≤ t) (h4 : t < 2147483648) (h5 : out = 0 ∨ out = 1) : (¬ canStr μ b t out → fy_B_stroke G y X (iI b) (iI t) (iI out) = some (iI (-1), y)) ∧ (canStr μ b t out → ∃ y', fy_B_stroke G y X (iI b) (iI t) (iI out) = some (iI (strV (uR μ) (seedX (uX μ)) b t (onI out) (strongI (uR μ) (uX μ))), y') ∧ XR G y' (uNow (uAct μ) (strS (uR μ) (seedX (uX μ)) b t (onI out) (strongI (uR μ) (uX μ)))) X ∧ bnd y y') := by
  obtain ⟨O, r, bd, ld, K, sg, h⟩ := h
  have hx := hw.2.1
  have hR := hw.1
  have hc := h.xc
  have hrr := hR.2.1
  have hb9 := hR.2.2.1
  have e0 : fy_B_stroke G y X (iI b) (iI t) (iI out) = if (0 ≤ b ∧ b < rB (uR μ)) ∧ -1 ≤ t ∧ t ≤ 1 then fy_B_stroke_j41 G y X (iI b) (iI t) (iI out) (iI (uX μ (4 + b))) (iI (if out = 0 then 0 else rR (uR μ))) else some (iI (-1), y) := by
    unfold fy_B_stroke
    rw [x_c hc.1, obs, c_isBoard hc.1 hc.2.1 hR h1 h2, obs]
    by_cases q1 : 0 ≤ b ∧ b < rB (uR μ)
    · simp (disch := omega) only [if_pos q1, iI_lit, iI_add, iI_sub, iI_mul, iI_neg, obs, if_true, if_false, Int.reduceEq, Int.reduceLE, Int.reduceLT, Int.reduceAdd, Int.reduceSub, Int.reduceMul, Int.reduceNeg, Nat.reduceEqDiff, show ¬ iI 1 = iI 0 by decide, c_isIn]
      by_cases q2 : -1 ≤ t ∧ t ≤ 1
      · rw [if_pos (And.intro q1 q2)]
        simp (disch := omega) only [if_pos q2, iI_lit, iI_add, iI_sub, iI_mul, iI_neg, obs, if_true, if_false, Int.reduceEq, Int.reduceLE, Int.reduceLT, Int.reduceAdd, Int.reduceSub, Int.reduceMul, Int.reduceNeg, Nat.reduceEqDiff, show ¬ iI 1 = iI 0 by decide, x_1 hc.1, s_1 hc.2.2.1, s_a1 hc.2.2.1 hc.2.2.2, x_0 hc.1, r_row hc.2.1]
        rcases h5 with rfl | rfl
        · simp only [iI_lit, iI_add, iI_sub, iI_mul, iI_neg, obs, if_true, if_false, Int.reduceEq, Int.reduceLE, Int.reduceLT, Int.reduceAdd, Int.reduceSub, Int.reduceMul, Int.reduceNeg, Nat.reduceEqDiff]
        · simp only [iI_lit, iI_add, iI_sub, iI_mul, iI_neg, obs, if_true, if_false, Int.reduceEq, Int.reduceLE, Int.reduceLT, Int.reduceAdd, Int.reduceSub, Int.reduceMul, Int.reduceNeg, Nat.reduceEqDiff, show ¬ iI 1 = iI 0 by decide, show ¬ (1 : Int) = 0 by omega]
      · simp only [if_neg (show ¬ ((0 ≤ b ∧ b < rB (uR μ)) ∧ -1 ≤ t ∧ t ≤ 1) from fun z => q2 z.2), if_neg q2, iI_lit, iI_add, iI_sub, iI_mul, iI_neg, obs, if_true, if_false, Int.reduceEq, Int.reduceLE, Int.reduceLT, Int.reduceAdd, Int.reduceSub, Int.reduceMul, Int.reduceNeg, Nat.reduceEqDiff]
    · simp only [if_neg (show ¬ ((0 ≤ b ∧ b < rB (uR μ)) ∧ -1 ≤ t ∧ t ≤ 1) from fun z => q1 z.1), if_neg q1, iI_lit, iI_add, iI_sub, iI_mul, iI_neg, obs, if_true, if_false, Int.reduceEq, Int.reduceLE, Int.reduceLT, Int.reduceAdd, Int.reduceSub, Int.reduceMul, Int.reduceNeg, Nat.reduceEqDiff]
  by_cases q1 : (0 ≤ b ∧ b < rB (uR μ)) ∧ -1 ≤ t ∧ t ≤ 1
  rotate_left
  · exact ⟨fun _ => by rw [e0, if_neg q1], fun hc => absurd ⟨hc.1, hc.2.1⟩ q1⟩
  have hxb := hx.1 b q1.1.1 q1.1.2
  have hrow : (0 : Int) ≤ (if out = 0 then 0 else rR (uR μ)) ∧ (if out = 0 then 0 else rR (uR μ)) ≤ 6 := by split <;> omega
  have ee : (iI (uX μ (4 + b)) = iI (if out = 0 then 0 else rR (uR μ))) ↔ uX μ (4 + b) = (if out = 0 then 0 else rR (uR μ)) := iI_eq (by omega) (by omega) (by omega) (by omega)
  rw [if_pos q1] at e0
  refine ⟨fun hn => ?_, fun hcs => ?_⟩
  · have : uX μ (4 + b) = (if out = 0 then 0 else rR (uR μ)) := Classical.byContradiction fun z => hn ⟨q1.1, q1.2, z⟩
    rw [e0]
    unfold fy_B_stroke_j41
    rw [if_pos (ee.mpr this)]
    rfl
  · obtain ⟨y1, O', K', e1, g1, f1⟩ := c_keepAct hG h hw
    have hc1 := g1.xc
    have hc1 : XC G O' y1 (uR μ) (uX μ) X r bd ld := hc1
    have h27 := hx.2.2
    have esd := s_sd hc1.2.2.1 hc1.2.2.2
    have hsd : seedX (uX μ) 27 = (uX μ 27 * 137 + 71) % 1000 := by unfold seedX upI; rw [if_pos rfl]
    have l103 : [103].contains (lbF O' (X + 8) 6) = true := by rw [lbF_ne hc1.2.2.1.2.2.1 (by decide)]; rfl
    have f2 : yF O' [103] 0 0 y1 (sF y1 (X + 8) 6 (iI ((uX μ 27 * 137 + 71) % 1000))) := yF.refl.sf l103
    have hl7 := hR.2.2.2.1
    have v2 := hc1.2.2.2.seed (v := (uX μ 27 * 137 + 71) % 1000) hl7.2
    have v2 : vlY (sF y1 (X + 8) 6 (iI ((uX μ 27 * 137 + 71) % 1000))) (rL (uR μ)) (X + 8) (seedX (uX μ)) := v2
    have s2 := hc1.2.2.1.fr f2 rfl
    have S2 := hc1.1.fr f2 rfl
    have R2 := hc1.2.1.fr f2 rfl rfl
    have hwx := wfS_seed hR hx
    have hcan := str_can hw hcs
    have hfl : ∃ fl : Int, (fl = 0 ∨ fl = 1) ∧ 1 + fl = strongI (uR μ) (uX μ) ∧ ((fl = 0 ∧ rF (uR μ) ≤ seedX (uX μ) 27 % 100) ∨ (fl = 1 ∧ ¬ rF (uR μ) ≤ seedX (uX μ) 27 % 100)) := by
      unfold strongI
      by_cases hq : rF (uR μ) ≤ seedX (uX μ) 27 % 100
      · exact ⟨0, Or.inl rfl, by rw [if_pos hq]; rfl, Or.inl ⟨rfl, hq⟩⟩
      · exact ⟨1, Or.inr rfl, by rw [if_neg hq]; rfl, Or.inr ⟨rfl, hq⟩⟩
    obtain ⟨fl, fl1, fl2, fl3⟩ := hfl
    obtain ⟨y3, e3, f3, v3⟩ := c_stroke R2 hR s2 v2 hwx (Or.inl rfl) q1.1.1 q1.1.2 q1.2.1 q1.2.2 h5 fl1 hcan.1 hcan.2
    rw [fl2] at e3 v3
    have hF := hR.2.2.2.2.1
    have f13 : yF O' [2, 23, 103] 0 0 y1 y3 := (f2.m0 rfl).t0 (f3.m0 rfl)
    refine ⟨y3, ?_, XR.of (g1.now f13 rfl v3), ?_⟩
    · rw [e0]
      unfold fy_B_stroke_j41
      rw [if_neg (fun z => hcs.2.2 (ee.mp z)), x_c hc.1, obs, e1, obs, x_1 hc1.1, obs]
      simp only [x_1 hc1.1, esd, obs]
      rw [show (137 : Int32) = iI 137 from rfl, show (71 : Int32) = iI 71 from rfl, show (1000 : Int32) = iI 1000 from rfl, iI_mul, iI_add, show (137 : Int) * uX μ 27 = uX μ 27 * 137 from Int.mul_comm _ _, rm_i (by omega) (by omega) (by omega) (by omega), obs, s_wsd hc1.2.2.1 rfl, obs]
      simp only [x_1 S2, x_0 S2, s_sd s2 v2, obs]
      rw [show (100 : Int32) = iI 100 from rfl, rm_i (by rw [hsd]; omega) (by rw [hsd]; omega) (by omega) (by omega), obs, r_fl R2, obs]
      simp only [rF_le hF]
      rcases fl3 with ⟨rfl, q⟩ | ⟨rfl, q⟩
      · rw [if_pos q, s_c s2, obs, show (0 : Int32) = iI 0 from rfl, e3]
        rfl
      · rw [if_neg q, s_c s2, obs, show (1 : Int32) = iI 1 from rfl, e3]
        rfl
    · have a1 := f1.1
      have a3 := f13.1
      exact ⟨by omega, by omega, by omega, fun q hq => (f13.2.1 q (by omega)).trans (f1.2.1 q hq)⟩
theorem X_stow (hG : okG G) (h : XR G y μ X) (hw : wfM μ) {l b : Int} (h1 : -2147483648 ≤ l) (h2 : l < 2147483648) (h3 : -2147483648 ≤ b) (h4 : b < 2147483648) : (¬ canStow μ l b → fy_B_stow G y X (iI l) (iI b) = some (iI (-1), y)) ∧ (canStow μ l b → ∃ y', fy_B_stow G y X (iI l) (iI b) = some (iI (burd (uR μ) (upI (uX μ) (20 + l) b) b), y') ∧ XR G y' (uNow (uAct μ) (upI (uX μ) (20 + l) b)) X ∧ bnd y y') := by
  obtain ⟨O, r, bd, ld, K, sg, h⟩ := h
  have hx := hw.2.1
  have hR := hw.1
  have hc := h.xc
  have hrr := hR.2.1
  have hl7 := hR.2.2.2.1
  have hb9 := hR.2.2.1
  unfold fy_B_stow
  rw [x_c hc.1, obs, c_isLoad hc.1 hc.2.1 hR h1 h2, obs]
  by_cases ql : 0 ≤ l ∧ l < rL (uR μ)
  rotate_left
  · exact ⟨fun _ => by simp only [if_neg ql, iI_lit, iI_add, iI_sub, iI_mul, iI_neg, obs, if_true, if_false, Int.reduceEq, Int.reduceLE, Int.reduceLT, Int.reduceAdd, Int.reduceSub, Int.reduceMul, Int.reduceNeg, Nat.reduceEqDiff], fun z => absurd z.1 ql⟩
  simp only [if_pos ql, iI_lit, iI_add, iI_sub, iI_mul, iI_neg, obs, if_true, if_false, Int.reduceEq, Int.reduceLE, Int.reduceLT, Int.reduceAdd, Int.reduceSub, Int.reduceMul, Int.reduceNeg, Nat.reduceEqDiff, show ¬ iI 1 = iI 0 by decide, x_c hc.1]
  rw [c_isBoard hc.1 hc.2.1 hR h3 h4, obs]
  by_cases qb : 0 ≤ b ∧ b < rB (uR μ)
  rotate_left
  · exact ⟨fun _ => by simp only [if_neg qb, iI_lit, iI_add, iI_sub, iI_mul, iI_neg, obs, if_true, if_false, Int.reduceEq, Int.reduceLE, Int.reduceLT, Int.reduceAdd, Int.reduceSub, Int.reduceMul, Int.reduceNeg, Nat.reduceEqDiff], fun z => absurd z.2.1 qb⟩
  have hxl := hx.2.1 l ql.1 ql.2
  have hxb := hx.1 b qb.1 qb.2
  have a5 := s_a5 hc.2.2.1 hc.2.2.2 hl7.2 ql.1 ql.2
  have eb := c_bankOf hc hR hx qb.1 qb.2
  have hlw := hR.2.2.2.2.2.2.2.2.2.2.1 l ql.1 ql.2
  have ef := c_liesFlat hc hR hx qb.1 qb.2 (m := rLW (uR μ) l) (by omega) (by omega)
  have hbank : -10 ≤ (if uX μ (4 + b) = 0 then -1 else if uX μ (4 + b) = rR (uR μ) then -2 else 0 : Int) ∧ (if uX μ (4 + b) = 0 then -1 else if uX μ (4 + b) = rR (uR μ) then -2 else 0 : Int) ≤ 0 := by
    split
    · omega
    · split <;> omega
  simp (disch := omega) only [if_pos qb, iI_lit, iI_add, iI_sub, iI_mul, iI_neg, obs, if_true, if_false, Int.reduceEq, Int.reduceLE, Int.reduceLT, Int.reduceAdd, Int.reduceSub, Int.reduceMul, Int.reduceNeg, Nat.reduceEqDiff, show ¬ iI 1 = iI 0 by decide, iI_le, iI_lt, iI_eq, x_1 hc.1, s_5 hc.2.2.1, a5, x_0 hc.1, s_c hc.2.2.1, eb, r_1 hc.2.1, r_c1 hc.2.1, r_l hc.2.1 ql.1 ql.2, r_lc hc.2.1 ql.1 ql.2, r_lw hc.2.1 ql.1 ql.2, x_c hc.1, ef]
  by_cases q0 : 0 ≤ uX μ (20 + l)
  · refine ⟨fun _ => by rw [if_pos q0], fun z => ?_⟩
    have := z.2.2.2.1
    unfold bankI at this
    split at this <;> omega
  rw [if_neg q0]
  by_cases q1 : uX μ (20 + l) = (if uX μ (4 + b) = 0 then -1 else if uX μ (4 + b) = rR (uR μ) then -2 else 0)
  rotate_left
  · refine ⟨fun _ => by rw [if_neg q1], fun z => absurd ?_ q1⟩
    rw [z.2.2.2.1]
    unfold bankI
    rcases z.2.2.1 with k | k
    · rw [if_pos k, if_pos k]
    · by_cases k0 : uX μ (4 + b) = 0
      · rw [if_pos k0, if_pos k0]
      · rw [if_neg k0, if_neg k0, if_pos k]
  rw [if_pos q1]
  by_cases q2 : rBW (uR μ) b < burd (uR μ) (uX μ) b + rLW (uR μ) l
  · refine ⟨fun _ => by simp only [if_pos q2, iI_lit, iI_add, iI_sub, iI_mul, iI_neg, obs, if_true, if_false, Int.reduceEq, Int.reduceLE, Int.reduceLT, Int.reduceAdd, Int.reduceSub, Int.reduceMul, Int.reduceNeg, Nat.reduceEqDiff], fun z => ?_⟩
    have := z.2.2.2.2
    omega
  simp only [if_neg q2, iI_lit, iI_add, iI_sub, iI_mul, iI_neg, obs, if_true, if_false, Int.reduceEq, Int.reduceLE, Int.reduceLT, Int.reduceAdd, Int.reduceSub, Int.reduceMul, Int.reduceNeg, Nat.reduceEqDiff, show ¬ iI 1 = iI 0 by decide]
  have hcan : canStow μ l b := by
    refine ⟨ql, qb, ?_, ?_, by omega⟩
    · unfold atBankI
      by_cases k0 : uX μ (4 + b) = 0
      · exact Or.inl k0
      · rw [if_neg k0] at q1
        by_cases k1 : uX μ (4 + b) = rR (uR μ)
        · exact Or.inr k1
        · rw [if_neg k1] at q1; omega
    · rw [q1]
      unfold bankI
      by_cases k0 : uX μ (4 + b) = 0
      · rw [if_pos k0, if_pos k0]
      · rw [if_neg k0] at q1
        rw [if_neg k0, if_neg k0]
        by_cases k1 : uX μ (4 + b) = rR (uR μ)
        · rw [if_pos k1]
        · rw [if_neg k1] at q1; omega
  refine ⟨fun z => absurd hcan z, fun _ => ?_⟩
  obtain ⟨y1, O', K', e1, g1, f1⟩ := c_keepAct hG h hw
  have hc1 : XC G O' y1 (uR μ) (uX μ) X r bd ld := g1.xc
  have l23 : [23].contains (O' (X + 8 + 6)) = true := by rw [hc1.2.2.1.2.2.2.1 6 (by omega) (by omega)]; rfl
  have f2 : yF O' [23] 0 0 y1 (yw y1 (X + 8 + 6) l.toNat (iI b)) := yF.refl.w l23
  have v2 := hc1.2.2.2.w5 (b := l) (v := b) ql.1 (by omega)
  have hx2 := wfS_load hR hx ql.1 ql.2 (v := b) (by omega) qb.2
  have S2 := hc1.1.fr f2 rfl
  have R2 := hc1.2.1.fr f2 rfl rfl
  have s2 := hc1.2.2.1.fr f2 rfl
  have e2 := c_burden R2 hR s2 v2 hx2 (b := b) (by omega) (by omega)
  refine ⟨_, ?_, XR.of (g1.now f2 rfl v2), ?_⟩
  · rw [e1, obs]
    simp (disch := first | omega | (repeat first | exact rfl | refine Eq.trans ty_yw ?_ | refine Eq.trans ty_sF ?_)) only [x_1 hc1.1, s_5 hc1.2.2.1, s_w5 hc1.2.2.1, obs, x_1 S2, x_0 S2, s_c s2, e2]
  · have a1 := f1.1
    have a3 := f2.1
    exact ⟨by omega, by omega, by omega, fun q hq => (f2.2.1 q (by omega)).trans (f1.2.1 q hq)⟩
theorem X_take (hG : okG G) (h : XR G y μ X) (hw : wfM μ) {l : Int} (h1 : -2147483648 ≤ l) (h2 : l < 2147483648) : (¬ canTake μ l → fy_B_take G y X (iI l) = some (iI (-1), y)) ∧ (canTake μ l → ∃ y', fy_B_take G y X (iI l) = some (iI (uX μ (20 + l)), y') ∧ XR G y' (uNow (uAct μ) (upI (uX μ) (20 + l) (bankI (uX μ (4 + uX μ (20 + l)))))) X ∧ bnd y y') := by
  obtain ⟨O, r, bd, ld, K, sg, h⟩ := h
  have hx := hw.2.1
  have hR := hw.1
  have hc := h.xc
  have hrr := hR.2.1
  have hl7 := hR.2.2.2.1
  have hb9 := hR.2.2.1
  unfold fy_B_take
  rw [x_c hc.1, obs, c_isLoad hc.1 hc.2.1 hR h1 h2, obs]
  by_cases ql : 0 ≤ l ∧ l < rL (uR μ)
  rotate_left
  · exact ⟨fun _ => by simp only [if_neg ql, iI_lit, iI_add, iI_sub, iI_mul, iI_neg, obs, if_true, if_false, Int.reduceEq, Int.reduceLE, Int.reduceLT, Int.reduceAdd, Int.reduceSub, Int.reduceMul, Int.reduceNeg, Nat.reduceEqDiff], fun z => absurd z.1 ql⟩
  have hxl := hx.2.1 l ql.1 ql.2
  have a5 := s_a5 hc.2.2.1 hc.2.2.2 hl7.2 ql.1 ql.2
  simp (disch := omega) only [if_pos ql, iI_lit, iI_add, iI_sub, iI_mul, iI_neg, obs, if_true, if_false, Int.reduceEq, Int.reduceLE, Int.reduceLT, Int.reduceAdd, Int.reduceSub, Int.reduceMul, Int.reduceNeg, Nat.reduceEqDiff, show ¬ iI 1 = iI 0 by decide, iI_le, iI_lt, iI_eq, x_1 hc.1, s_5 hc.2.2.1, a5, x_0 hc.1, s_c hc.2.2.1]
  by_cases q0 : uX μ (20 + l) < 0
  · refine ⟨fun _ => by rw [if_pos q0], fun z => ?_⟩
    have := z.2.1
    omega
  rw [if_neg q0]
  have hxb := hx.1 (uX μ (20 + l)) (by omega) (by omega)
  have eb := c_bankOf hc hR hx (b := uX μ (20 + l)) (by omega) (by omega)
  rw [eb, obs]
  by_cases q1 : atBankI μ (uX μ (20 + l))
  rotate_left
  · refine ⟨fun _ => ?_, fun z => absurd z.2.2 q1⟩
    rw [if_neg (show ¬ uX μ (4 + uX μ (20 + l)) = 0 from fun k => q1 (Or.inl k)), if_neg (show ¬ uX μ (4 + uX μ (20 + l)) = rR (uR μ) from fun k => q1 (Or.inr k)), if_pos rfl]
  have ebk : (if uX μ (4 + uX μ (20 + l)) = 0 then -1 else if uX μ (4 + uX μ (20 + l)) = rR (uR μ) then -2 else 0 : Int) = bankI (uX μ (4 + uX μ (20 + l))) := by
    unfold bankI
    by_cases k0 : uX μ (4 + uX μ (20 + l)) = 0
    · rw [if_pos k0, if_pos k0]
    · rw [if_neg k0, if_neg k0]
      rcases q1 with k | k
      · exact absurd k k0
      · rw [if_pos k]
  rw [ebk]
  have hbk : bankI (uX μ (4 + uX μ (20 + l))) = -1 ∨ bankI (uX μ (4 + uX μ (20 + l))) = -2 := by unfold bankI; split <;> simp
  rw [if_neg (by rw [iI_eq (by omega) (by omega) (by omega) (by omega)]; omega)]
  refine ⟨fun z => absurd ⟨ql, by omega, q1⟩ z, fun _ => ?_⟩
  obtain ⟨y1, O', K', e1, g1, f1⟩ := c_keepAct hG h hw
  have hc1 : XC G O' y1 (uR μ) (uX μ) X r bd ld := g1.xc
  have a51 := s_a5 hc1.2.2.1 hc1.2.2.2 hl7.2 ql.1 ql.2
  have eb1 := c_bankOf hc1 hR hx (b := uX μ (20 + l)) (by omega) (by omega)
  rw [ebk] at eb1
  have l23 : [23].contains (O' (X + 8 + 6)) = true := by rw [hc1.2.2.1.2.2.2.1 6 (by omega) (by omega)]; rfl
  have f2 : yF O' [23] 0 0 y1 (yw y1 (X + 8 + 6) l.toNat (iI (bankI (uX μ (4 + uX μ (20 + l)))))) := yF.refl.w l23
  have v2 := hc1.2.2.2.w5 (b := l) (v := bankI (uX μ (4 + uX μ (20 + l)))) ql.1 (by omega)
  refine ⟨_, ?_, XR.of (g1.now f2 rfl v2), ?_⟩
  · rw [e1, obs]
    simp (disch := first | omega | (repeat first | exact rfl | refine Eq.trans ty_yw ?_ | refine Eq.trans ty_sF ?_)) only [x_1 hc1.1, x_0 hc1.1, s_5 hc1.2.2.1, a51, s_c hc1.2.2.1, eb1, s_w5 hc1.2.2.1, obs]
  · have a1 := f1.1
    have a3 := f2.1
    exact ⟨by omega, by omega, by omega, fun q hq => (f2.2.1 q (by omega)).trans (f1.2.1 q hq)⟩
theorem X_cool (hG : okG G) (h : XR G y μ X) (hw : wfM μ) {b m : Int} (h1 : -2147483648 ≤ b) (h2 : b < 2147483648) (h3 : -2147483648 ≤ m) (h4 : m < 2147483648) : (¬ canCool μ b m → fy_B_cool G y X (iI b) (iI m) = some (iI (-1), y)) ∧ (canCool μ b m → ∃ y', fy_B_cool G y X (iI b) (iI m) = some (iI (clampI (uX μ (8 + b) - m) 99), y') ∧ XR G y' (uNow (uAct μ) (upI (uX μ) (8 + b) (clampI (uX μ (8 + b) - m) 99))) X ∧ bnd y y') := by
  obtain ⟨O, r, bd, ld, K, sg, h⟩ := h
  have hx := hw.2.1
  have hR := hw.1
  have hc := h.xc
  have hb9 := hR.2.2.1
  unfold fy_B_cool
  rw [x_c hc.1, obs, c_isBoard hc.1 hc.2.1 hR h1 h2, obs]
  by_cases qb : 0 ≤ b ∧ b < rB (uR μ)
  rotate_left
  · exact ⟨fun _ => by simp only [if_neg qb, iI_lit, iI_add, iI_sub, iI_mul, iI_neg, obs, if_true, if_false, Int.reduceEq, Int.reduceLE, Int.reduceLT, Int.reduceAdd, Int.reduceSub, Int.reduceMul, Int.reduceNeg, Nat.reduceEqDiff], fun z => absurd z.1 qb⟩
  simp (disch := omega) only [if_pos qb, iI_lit, iI_add, iI_sub, iI_mul, iI_neg, obs, if_true, if_false, Int.reduceEq, Int.reduceLE, Int.reduceLT, Int.reduceAdd, Int.reduceSub, Int.reduceMul, Int.reduceNeg, Nat.reduceEqDiff, show ¬ iI 1 = iI 0 by decide, c_isIn]
  by_cases qm : 1 ≤ m ∧ m ≤ 9
  rotate_left
  · exact ⟨fun _ => by simp only [if_neg qm, iI_lit, iI_add, iI_sub, iI_mul, iI_neg, obs, if_true, if_false, Int.reduceEq, Int.reduceLE, Int.reduceLT, Int.reduceAdd, Int.reduceSub, Int.reduceMul, Int.reduceNeg, Nat.reduceEqDiff], fun z => absurd z.2 qm⟩
  refine ⟨fun z => absurd ⟨qb, qm⟩ z, fun _ => ?_⟩
  have hxb := hx.1 b qb.1 qb.2
  obtain ⟨y1, O', K', e1, g1, f1⟩ := c_keepAct hG h hw
  have hc1 : XC G O' y1 (uR μ) (uX μ) X r bd ld := g1.xc
  have a2 := s_a2 hc1.2.2.1 hc1.2.2.2 qb.1 (show b < 4 by omega)
  have l23 : [23].contains (O' (X + 8 + 3)) = true := by rw [hc1.2.2.1.2.2.2.1 3 (by omega) (by omega)]; rfl
  have f2 : yF O' [23] 0 0 y1 (yw y1 (X + 8 + 3) b.toNat (iI (clampI (uX μ (8 + b) - m) 99))) := yF.refl.w l23
  have v2 := hc1.2.2.2.w2 (b := b) (v := clampI (uX μ (8 + b) - m) 99) qb.1 (by omega)
  have ew := c_within (v := uX μ (8 + b) - m) (m := 99) (by omega) (by omega) (by omega) (by omega)
  refine ⟨_, ?_, XR.of (g1.now f2 rfl v2), ?_⟩
  · have S2 := hc1.1.fr f2 rfl
    have s2 := hc1.2.2.1.fr f2 rfl
    simp (disch := first | omega | (repeat first | exact rfl | refine Eq.trans ty_yw ?_ | refine Eq.trans ty_sF ?_)) only [if_pos qm, iI_lit, iI_add, iI_sub, iI_mul, iI_neg, obs, if_true, if_false, Int.reduceEq, Int.reduceLE, Int.reduceLT, Int.reduceAdd, Int.reduceSub, Int.reduceMul, Int.reduceNeg, Nat.reduceEqDiff, show ¬ iI 1 = iI 0 by decide, x_c hc.1, e1, x_1 hc1.1, s_2 hc1.2.2.1, a2, ew, s_w2 hc1.2.2.1, x_1 S2, s_2 s2, s_e2 hc1.2.2.1]
  · have a1 := f1.1
    have a3 := f2.1
    exact ⟨by omega, by omega, by omega, fun q hq => (f2.2.1 q (by omega)).trans (f1.2.1 q hq)⟩
end E0

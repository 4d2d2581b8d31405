/-! LAYER 3, the component: burdens, heat, strokes -/
set_option maxRecDepth 100000
theorem ty_yw {y : yS} {a i : Nat} {v : Int32} : yt (yw y a i v) = yt y := rfl
theorem ty_sF {y : yS} {a i : Nat} {v : Int32} : yt (sF y a i v) = yt y := rfl
theorem on0 : onI 0 = -1 := rfl
theorem on1 : onI 1 = 1 := rfl
theorem imin_i {m h : Int} (h1 : -2147483648 ≤ m) (h2 : m < 2147483648) (h3 : -2147483648 ≤ h) (h4 : h < 2147483648) : imin (iI m) (iI h) = iI (if h ≤ m then h else m) := by
  unfold imin
  simp only [iI_lt h3 h4 h1 h2]
  by_cases a : h < m
  · rw [if_pos a, if_pos (by omega)]
  · rw [if_neg a]
    by_cases b : h ≤ m
    · rw [if_pos b, show h = m by omega]
    · rw [if_neg b]
theorem imax_i {m h : Int} (h1 : -2147483648 ≤ m) (h2 : m < 2147483648) (h3 : -2147483648 ≤ h) (h4 : h < 2147483648) : imax (iI m) (iI h) = iI (if h ≤ m then m else h) := by
  unfold imax
  simp only [iI_lt h1 h2 h3 h4]
  by_cases a : m < h
  · rw [if_pos a, if_neg (by omega)]
  · rw [if_neg a, if_pos (by omega)]
theorem iabs_i {z : Int} (h1 : -2147483648 < z) (h2 : z < 2147483648) : iabs (iI z) = iI (absI z) := by
  unfold iabs absI
  simp (disch := omega) only [show (0 : Int32) = iI 0 from iI_lit 0, iI_le, iI_sub]
  by_cases a : 0 ≤ z
  · rw [if_pos a, if_pos a]
  · rw [if_neg a, if_neg a, Int.zero_sub]
theorem c_has {S l : Int} (h1 : 0 ≤ l) (h2 : l < 8) (h3 : 0 ≤ S) (h4 : S < 256) : fy_River_has (iI S) (iI l) = some (iI (bit S l)) := by
  have hb := bit_01 S l
  simp (disch := omega) only [fy_River_has, iI_lit, iI_add, iI_sub, iI_mul, iI_neg, obs, if_true, if_false, Int.reduceEq, Int.reduceLE, Int.reduceLT, Int.reduceAdd, Int.reduceSub, Int.reduceMul, Int.reduceNeg, Nat.reduceEqDiff, bit_i, iI_le, iI_lt, iI_eq]
  rcases hb with hb | hb
  · rw [hb, if_neg (by omega)]
  · rw [hb, if_pos rfl]
theorem c_Bhas {S l : Int} (h1 : 0 ≤ l) (h2 : l < 8) (h3 : 0 ≤ S) (h4 : S < 256) : fy_B_has (iI S) (iI l) = some (iI (bit S l)) := c_has h1 h2 h3 h4
theorem wid_at {ρ : Rv} (hw : wfR ρ) (x : Int → Int) (b : Int) : wid ρ (atS ρ x b) = burd ρ x b := by
  unfold wid burd
  have : ∀ k : Nat, (k : Int) ≤ rL ρ → widN ρ (atS ρ x b) k = sumW ρ x b k := by
    intro k
    induction k with
    | zero => intro _; rfl
    | succ k ih =>
      intro hk
      simp only [widN, sumW]
      rw [ih (by omega), near_bit hw x b (k := k) (by omega)]
      by_cases hc : x (20 + k) = b
      · rw [if_pos hc, if_pos rfl, if_pos hc]
      · rw [if_neg hc, if_neg (by decide), if_neg hc]
  exact this _ (by have := hw.2.2.2.1; omega)
section D2
variable {G : ai_G} {O : Nat → Nat} {y : yS} {ρ : Rv} {r : Nat} {bd ld : Nat → Nat} {a lab : Nat} {x : Int → Int}
theorem c_loadsAt (hr : rivY G O y ρ r bd ld) (hw : wfR ρ) (hs : shY O y a lab) (hv : vlY y (rL ρ) a x) (hx : wfS ρ x) {w : Int} (hb : -10 ≤ w) (hb2 : w ≤ 10) : fy_State_loadsAt G y a r (iI w) = some (iI (atS ρ x w)) := by
  have hl := hw.2.2.2.1
  have hbb := hw.2.2.1
  unfold fy_State_loadsAt
  have : lp (fy_State_loadsAt_b5 G y a r (iI w)) (0, 0) = some (iI (atS ρ x w)) := by
    refine lp_seq (fun i => (iI (setP (fun l => decide (x (20 + l) = w)) i), iI i)) (rL ρ).toNat (fun i hi => ?_) ?_
    · have h1 := hx.2.1 i (by omega) (by omega)
      have h2 := s_a5 hs hv (by omega) (l := i) (by omega) (by omega)
      have h3 := setP_b (fun l => decide (x (20 + l) = w)) i
      simp (disch := omega) only [fy_State_loadsAt_b5, r_1 hr, r_c1 hr, r_ls hr, s_5 hs, iI_lit, iI_add, iI_sub, iI_mul, iI_neg, obs, if_true, if_false, Int.reduceEq, Int.reduceLE, Int.reduceLT, Int.reduceAdd, Int.reduceSub, Int.reduceMul, Int.reduceNeg, Nat.reduceEqDiff, iI_le, iI_lt, iI_eq, h2, setP]
      rw [if_neg (by omega)]
      by_cases hc : x (20 + i) = w
      · rw [if_pos hc, or_i (by omega) (by omega) h3.1 h3.2, if_pos (by simpa using hc)]
        rfl
      · rw [if_neg hc, if_neg (by simpa using hc), Int.add_zero]
        rfl
    · simp (disch := omega) only [fy_State_loadsAt_b5, r_1 hr, r_c1 hr, r_ls hr, iI_lit, iI_add, iI_sub, iI_mul, iI_neg, obs, if_true, if_false, Int.reduceEq, Int.reduceLE, Int.reduceLT, Int.reduceAdd, Int.reduceSub, Int.reduceMul, Int.reduceNeg, Nat.reduceEqDiff, iI_le, iI_lt, iI_eq]
      rw [if_pos (by omega)]
      rfl
  rw [this]
  rfl
theorem c_widthOf (hr : rivY G O y ρ r bd ld) (hw : wfR ρ) {S : Int} (h1 : 0 ≤ S) (h2 : S < 256) : fy_River_widthOf G y r (iI S) = some (iI (wid ρ S)) := by
  have hl := hw.2.2.2.1
  have hlb := hw.2.2.2.2.2.2.2.2.2.2.1
  unfold fy_River_widthOf
  have : lp (fy_River_widthOf_b4 G y r (iI S)) (0, 0) = some (iI (wid ρ S)) := by
    refine lp_seq (fun i => (iI (widN ρ S i), iI i)) (rL ρ).toNat (fun i hi => ?_) ?_
    · have h5 := widN_b hw S i (by omega)
      have h6 := hlb i (by omega) (by omega)
      have e1 := c_has (S := S) (l := i) (by omega) (by omega) h1 h2
      have e2 := r_l hr (b := i) (by omega) (by omega)
      have e3 := r_lc hr (b := i) (by omega) (by omega)
      have e4 := r_lw hr (b := i) (by omega) (by omega)
      simp (disch := omega) only [fy_River_widthOf_b4, r_1 hr, r_c1 hr, r_ls hr, e1, e2, e3, e4, iI_lit, iI_add, iI_sub, iI_mul, iI_neg, obs, if_true, if_false, Int.reduceEq, Int.reduceLE, Int.reduceLT, Int.reduceAdd, Int.reduceSub, Int.reduceMul, Int.reduceNeg, Nat.reduceEqDiff, iI_le, iI_lt, iI_eq, widN]
      rw [if_neg (by omega)]
      rcases bit_01 S i with hb | hb
      · simp only [hb, iI_lit, iI_add, iI_sub, iI_mul, iI_neg, obs, if_true, if_false, Int.reduceEq, Int.reduceLE, Int.reduceLT, Int.reduceAdd, Int.reduceSub, Int.reduceMul, Int.reduceNeg, Nat.reduceEqDiff, Int.add_zero]
        rfl
      · simp only [hb, iI_lit, iI_add, iI_sub, iI_mul, iI_neg, obs, if_true, if_false, Int.reduceEq, Int.reduceLE, Int.reduceLT, Int.reduceAdd, Int.reduceSub, Int.reduceMul, Int.reduceNeg, Nat.reduceEqDiff, show ¬ iI 1 = iI 0 by decide]
        rfl
    · simp (disch := omega) only [fy_River_widthOf_b4, r_1 hr, r_c1 hr, r_ls hr, iI_lit, iI_add, iI_sub, iI_mul, iI_neg, obs, if_true, if_false, Int.reduceEq, Int.reduceLE, Int.reduceLT, Int.reduceAdd, Int.reduceSub, Int.reduceMul, Int.reduceNeg, Nat.reduceEqDiff, iI_le, iI_lt, iI_eq]
      rw [if_pos (by omega)]
      rfl
  rw [this]
  rfl
theorem c_burden (hr : rivY G O y ρ r bd ld) (hw : wfR ρ) (hs : shY O y a lab) (hv : vlY y (rL ρ) a x) (hx : wfS ρ x) {b : Int} (hb : -10 ≤ b) (hb2 : b ≤ 10) : fy_State_burden G y a r (iI b) = some (iI (burd ρ x b)) := by
  have h1 := atS_b hw x b
  unfold fy_State_burden
  rw [s_c hs, obs, c_loadsAt hr hw hs hv hx hb hb2, obs, r_c hr, obs, c_widthOf hr hw h1.1 (by omega), wid_at hw]
  rfl
theorem c_hotter (hr : rivY G O y ρ r bd ld) (hw : wfR ρ) (hs : shY O y a lab) (hv : vlY y (rL ρ) a x) (hx : wfS ρ x) (hlab : lab = 3 ∨ lab = 4) {b : Int} (h1 : 0 ≤ b) (h2 : b < rB ρ) : ∃ y', fy_River_hotter G y r a (iI b) = some (iI (hot ρ x b), y') ∧ yF O [2] 0 0 y y' := by
  have hbb := hw.2.2.1
  have hsep : r + 6 < a ∨ a + 6 < r + 6 := by rcases hlab with rfl | rfl <;> exact r_sep hr hs rfl rfl
  have h2c : [2].contains (O (r + 6)) = true := by rw [r_toldO hr]; rfl
  rcases r_tre hr with ⟨t1, t2⟩ | ⟨q, t1, t2⟩
  · refine ⟨y, ?_, yF.refl⟩
    have e : gN 1 5 y r = some none := by unfold gN; rw [if_pos hr.1.1, t2]
    have e2 : hot ρ x b = 1 := by
      unfold hot
      rw [t1]
      show clampI (1 : Int32).toInt 99 = 1
      decide
    unfold fy_River_hotter
    rw [e, e2]
    rfl
  · have e : gN 1 5 y r = some (some q) := by unfold gN; rw [if_pos hr.1.1, t1]
    have e5 : gR 1 5 y r = some q := by unfold gR; rw [if_pos hr.1.1, t1]
    have a1 := s_a1 hs hv h1 (show b < 4 by omega)
    have a0 := s_a0 hs hv h1 (show b < 4 by omega)
    have a4 := s_a4 hs hv h1 (show b < 4 by omega)
    have a2 := s_a2 hs hv h1 (show b < 4 by omega)
    have bo : ∀ u v, fy_State_burden G (yw (yw y (r + 6) 0 u) (r + 6) 1 v) a r (iI b) = some (iI (burd ρ x b)) := fun u v => by
      have f : yF O [2] 0 0 y (yw (yw y (r + 6) 0 u) (r + 6) 1 v) := (yF.refl.w h2c).w h2c
      exact c_burden (hr.fr f rfl rfl) hw (hs.t rfl rfl rfl) ((hv.o (by omega)).o (by omega)) hx (by omega) (by omega)
    have f6 : yF O [2] 0 0 y (yw (yw (yw (yw (yw (yw y (r + 6) 0 (iI (x (4 + b)))) (r + 6) 1 (iI (x b))) (r + 6) 2 (iI (burd ρ x b))) (r + 6) 3 (iI (rBW ρ b))) (r + 6) 4 (iI (x (16 + b)))) (r + 6) 5 (iI (x (8 + b)))) := (((((yF.refl.w h2c).w h2c).w h2c).w h2c).w h2c).w h2c
    obtain ⟨v, ev, fv⟩ := c_of (G := G) (O := O) (y := yw (yw (yw (yw (yw (yw y (r + 6) 0 (iI (x (4 + b)))) (r + 6) 1 (iI (x b))) (r + 6) 2 (iI (burd ρ x b))) (r + 6) 3 (iI (rBW ρ b))) (r + 6) 4 (iI (x (16 + b)))) (r + 6) 5 (iI (x (8 + b)))) (q := fun k => iI (askI ρ x b k)) (t := r + 6) (by
      intro k hk
      refine Eq.trans (aI_n 6 ?_ (by omega) (by omega) (by omega)) ?_
      · exact Eq.trans (by rfl) (r_t6 hr)
      simp only [yw_get, true_and, Int.toNat_natCast]
      match k, hk with
      | 0, _ => rfl
      | 1, _ => rfl
      | 2, _ => rfl
      | 3, _ => rfl
      | 4, _ => rfl
      | 5, _ => rfl) 64 q (rS ρ) (trY.fr f6 rfl rfl _ _ _ t2)
    have hev : evalF (rS ρ) (fun k => iI (askI ρ x b k)) = v := by
      unfold evalF
      rw [fv []]
    refine ⟨_, ?_, f6⟩
    have h3 := Int32.toInt_lt v
    have h4 := Int32.le_toInt v
    have e6 : fy_B_within v (iI 99) = some (iI (hot ρ x b)) := by
      rw [show fy_B_within v (iI 99) = fy_B_within (iI v.toInt) (iI 99) by rw [← iI_of], c_within (by omega) (by omega) (by omega) (by omega)]
      unfold hot
      rw [hev]
    simp (disch := first | omega | (repeat first | exact rfl | refine Eq.trans ty_yw ?_ | refine Eq.trans ty_sF ?_)) only [fy_River_hotter, e, e5, reduceCtorEq, iI_lit, iI_add, iI_sub, iI_mul, iI_neg, obs, if_true, if_false, Int.reduceEq, Int.reduceLE, Int.reduceLT, Int.reduceAdd, Int.reduceSub, Int.reduceMul, Int.reduceNeg, Nat.reduceEqDiff, gR_yw, gI_yw, gN_yw, ck_yw, aL_yw, lget_yw, lsize_yw, r_16 hr, s_1 hs, s_0 hs, s_4 hs, s_2 hs, s_c hs, aI_yw, a1, a0, a4, a2, r_wt hr, bo, r_0 hr, r_c0 hr, r_b hr, r_bc hr, r_bw hr, Int.reduceToNat, ev, e6]
/-- a stroke, its end: the heat -/
theorem c_j147 (hr : rivY G O y ρ r bd ld) (hw : wfR ρ) (hs : shY O y a lab) (hv : vlY y (rL ρ) a x) {b g h hi : Int} (h1 : 0 ≤ b) (h2 : b < rB ρ) (h8 : 0 ≤ x (8 + b) ∧ x (8 + b) ≤ 99) (h12 : 0 ≤ x (12 + b) ∧ x (12 + b) ≤ 999) (hh : 0 ≤ h ∧ h ≤ 99) (hg : g = if x (8 + b) + h ≤ 99 then x (8 + b) + h else 99) (hi2 : hi = 0 ∨ hi = 1) : ∃ y', fy_State_stroke_j147 G y a r (iI b) (iI h) (iI hi) = some (iI (hi + 2 * (if g ≤ rBB ρ b then 0 else 1)), y') ∧ yF O [lab + 20] 0 0 y y' ∧ vlY y' (rL ρ) a (if g ≤ rBB ρ b then upI x (8 + b) g else upI (upI (upI x (8 + b) g) (8 + b) 0) (12 + b) (if x (12 + b) + 1 ≤ 999 then x (12 + b) + 1 else 999)) := by
  have hbb := hw.2.2.1
  have hbe := (hw.2.2.2.2.2.2.2.2.2.1 b h1 h2).2.2
  have a2 := s_a2 hs hv h1 (show b < 4 by omega)
  have a3 := s_a3 hs hv h1 (show b < 4 by omega)
  have o3 : [lab + 20].contains (O (a + 3)) = true := by rw [hs.2.2.2.1 3 (by omega) (by omega)]; simp
  have o4 : [lab + 20].contains (O (a + 4)) = true := by rw [hs.2.2.2.1 4 (by omega) (by omega)]; simp
  have hg1 : 0 ≤ g ∧ g ≤ 99 := by subst hg; split <;> omega
  have em : imin (iI 99) (iI (x (8 + b) + h)) = iI g := by rw [imin_i (by omega) (by omega) (by omega) (by omega), hg]
  have e9 : imin (iI 999) (iI (x (12 + b) + 1)) = iI (if x (12 + b) + 1 ≤ 999 then x (12 + b) + 1 else 999) := imin_i (by omega) (by omega) (by omega) (by omega)
  simp (disch := first | omega | (repeat first | exact rfl | refine Eq.trans ty_yw ?_ | refine Eq.trans ty_sF ?_)) only [fy_State_stroke_j147, iI_lit, iI_add, iI_sub, iI_mul, iI_neg, obs, if_true, if_false, Int.reduceEq, Int.reduceLE, Int.reduceLT, Int.reduceAdd, Int.reduceSub, Int.reduceMul, Int.reduceNeg, Nat.reduceEqDiff, iI_le, iI_lt, iI_eq, gR_yw, gI_yw, gN_yw, ck_yw, aL_yw, lget_yw, lsize_yw, s_2 hs, s_3 hs, a2, s_w2 hs, s_w3 hs, s_e2 hs, em, r_0 hr, r_c0 hr, r_b hr, r_bc hr, r_bb hr, aI_yw, a3, e9]
  by_cases hc : g ≤ rBB ρ b
  · simp only [if_pos hc, if_neg (show ¬ rBB ρ b < g by omega)]
    refine ⟨yw y (a + 3) b.toNat (iI g), ?_, yF.refl.w o3, hv.w2 h1 (by omega)⟩
    rcases hi2 with rfl | rfl
    · simp only [iI_lit, iI_add, iI_sub, iI_mul, iI_neg, obs, if_true, if_false, Int.reduceEq, Int.reduceLE, Int.reduceLT, Int.reduceAdd, Int.reduceSub, Int.reduceMul, Int.reduceNeg, Nat.reduceEqDiff]
    · simp only [iI_lit, iI_add, iI_sub, iI_mul, iI_neg, obs, if_true, if_false, Int.reduceEq, Int.reduceLE, Int.reduceLT, Int.reduceAdd, Int.reduceSub, Int.reduceMul, Int.reduceNeg, Nat.reduceEqDiff, show ¬ (1 : Int) = 0 by omega]
  · simp only [if_neg hc, if_pos (show rBB ρ b < g by omega)]
    refine ⟨yw (yw (yw y (a + 3) b.toNat (iI g)) (a + 3) b.toNat (iI 0)) (a + 4) b.toNat (iI (if x (12 + b) + 1 ≤ 999 then x (12 + b) + 1 else 999)), ?_, ((yF.refl.w o3).w o3).w o4, ((hv.w2 h1 (by omega)).w2 h1 (by omega)).w3 h1 (by omega)⟩
    rcases hi2 with rfl | rfl
    · simp only [iI_lit, iI_add, iI_sub, iI_mul, iI_neg, obs, if_true, if_false, Int.reduceEq, Int.reduceLE, Int.reduceLT, Int.reduceAdd, Int.reduceSub, Int.reduceMul, Int.reduceNeg, Nat.reduceEqDiff]
    · simp only [iI_lit, iI_add, iI_sub, iI_mul, iI_neg, obs, if_true, if_false, Int.reduceEq, Int.reduceLE, Int.reduceLT, Int.reduceAdd, Int.reduceSub, Int.reduceMul, Int.reduceNeg, Nat.reduceEqDiff, show ¬ (1 : Int) = 0 by omega]
theorem str_join {x' : Int → Int} {b t on k : Int} (h1 : 0 ≤ b) (h2 : b < 4) (h12 : x (12 + b) ≤ 999) (hS : ∀ z, x' z = if z = b then (if strH ρ x b t on k = 0 then colBy ρ (x b) (x (4 + b)) t k else x b) else if z = 4 + b then (if strH ρ x b t on k = 0 then x (4 + b) + on else x (4 + b)) else if z = 16 + b then x (16 + b) + 1 else x z) : (if strG ρ x b ≤ rBB ρ b then upI x' (8 + b) (strG ρ x b) else upI (upI (upI x' (8 + b) (strG ρ x b)) (8 + b) 0) (12 + b) (if x' (12 + b) + 1 ≤ 999 then x' (12 + b) + 1 else 999)) = strS ρ x b t on k := by
  have e12 : x' (12 + b) = x (12 + b) := by rw [hS, if_neg (by omega), if_neg (by omega), if_neg (by omega)]
  funext z
  rw [str_pt z h1 h2, e12]
  by_cases z0 : z = b
  · have e : x' z = _ := hS z
    rw [if_pos z0] at e
    rw [if_pos z0, ← e]
    split
    · exact if_neg (by omega)
    · exact (if_neg (by omega)).trans ((if_neg (by omega)).trans (if_neg (by omega)))
  rw [if_neg z0]
  by_cases z4 : z = 4 + b
  · have e : x' z = _ := hS z
    rw [if_neg z0, if_pos z4] at e
    rw [if_pos z4, ← e]
    split
    · exact if_neg (by omega)
    · exact (if_neg (by omega)).trans ((if_neg (by omega)).trans (if_neg (by omega)))
  rw [if_neg z4]
  by_cases z8 : z = 8 + b
  · rw [if_pos z8]
    split
    · exact if_pos z8
    · exact (if_neg (by omega)).trans (if_pos z8)
  rw [if_neg z8]
  by_cases z12 : z = 12 + b
  · rw [if_pos z12]
    split
    · refine (if_neg z8).trans ?_
      rw [z12]
      exact e12
    · refine (if_pos z12).trans ?_
      split <;> split <;> omega
  rw [if_neg z12]
  have e : x' z = _ := hS z
  rw [if_neg z0, if_neg z4] at e
  rw [← e]
  split
  · exact if_neg z8
  · exact (if_neg z12).trans ((if_neg z8).trans (if_neg z8))
theorem c_stroke (hr : rivY G O y ρ r bd ld) (hw : wfR ρ) (hs : shY O y a lab) (hv : vlY y (rL ρ) a x) (hx : wfS ρ x) (hlab : lab = 3 ∨ lab = 4) {b t out fl : Int} (h1 : 0 ≤ b) (h2 : b < rB ρ) (h3 : -1 ≤ t) (h4 : t ≤ 1) (ho : out = 0 ∨ out = 1) (hf : fl = 0 ∨ fl = 1) (h7 : 0 ≤ x (4 + b) + onI out) (h8 : x (4 + b) + onI out ≤ rR ρ) : ∃ y', fy_State_stroke G y a r (iI b) (iI t) (iI out) (iI fl) = some (iI (strV ρ x b t (onI out) (1 + fl)), y') ∧ yF O [2, lab + 20] 0 0 y y' ∧ vlY y' (rL ρ) a (strS ρ x b t (onI out) (1 + fl)) := by
  have hw1 := hw
  obtain ⟨hC, hRr, hbb, -, -, -, hcu, hcu0, hir, hbw, -⟩ := hw
  obtain ⟨⟨c1, c2⟩, ⟨c3, c4⟩, ⟨c5, c6⟩, c7, c8⟩ := hx.1 b h1 h2
  have hon : -1 ≤ onI out ∧ onI out ≤ 1 := by unfold onI; split <;> omega
  obtain ⟨y1, e1, f1⟩ := c_hotter hr hw1 hs hv hx hlab h1 h2
  have hr1 := hr.fr f1 rfl rfl
  have hl5 : Nat.beq lab 5 = false := by rcases hlab with rfl | rfl <;> rfl
  have hl2 : [2].contains lab = false := by rcases hlab with rfl | rfl <;> rfl
  have hl22 : [2].contains (lab + 20) = false := by rcases hlab with rfl | rfl <;> rfl
  have hl12 : [2].contains (100 + lab) = false := by rcases hlab with rfl | rfl <;> rfl
  have hs1 := hs.fr f1 hl2
  have hv1 := hv.fr hs f1 hl22 hl12 hl5
  have hh := hot_b ρ x b
  have hcb := colBy_b hw1 (x b) (x (4 + b)) t (1 + fl)
  have hq := hcu (8 * x (4 + b) + x b) (by omega) (by omega)
  have hk1 : 0 ≤ (1 + fl) * rCu ρ (8 * x (4 + b) + x b) := Int.mul_nonneg (by omega) hq.1
  have hk2 : (1 + fl) * rCu ρ (8 * x (4 + b) + x b) ≤ 2 * 7 := Int.mul_le_mul (by omega) hq.2 hq.1 (by omega)
  have b0 := s_a0 hs1 hv1 h1 (show b < 4 by omega)
  have b1 := s_a1 hs1 hv1 h1 (show b < 4 by omega)
  have b4 := s_a4 hs1 hv1 h1 (show b < 4 by omega)
  have hA : fy_State_stroke G y a r (iI b) (iI t) (iI out) (iI fl) = fy_State_stroke_j46 G y1 a r (iI b) (iI t) (iI out) (iI fl) (iI (hot ρ x b)) (iI (rCu ρ (8 * x (4 + b) + x b))) := by
    simp (disch := omega) only [fy_State_stroke, r_c hr, e1, iI_lit, iI_add, iI_sub, iI_mul, iI_neg, obs, if_true, if_false, Int.reduceEq, Int.reduceLE, Int.reduceLT, Int.reduceAdd, Int.reduceSub, Int.reduceMul, Int.reduceNeg, Nat.reduceEqDiff, iI_le, iI_lt, iI_eq, s_1 hs1, b1, r_row hr1, r_2 hr1, s_0 hs1, b0, r_c hr1, c_cell, r_cu hr1]
    by_cases hh : rR ρ ≤ x (4 + b)
    · rw [if_pos hh, hcu0 (8 * x (4 + b) + x b) (by omega) (by omega) (by omega)]
    · rw [if_neg hh]
  have hB : fy_State_stroke_j46 G y1 a r (iI b) (iI t) (iI out) (iI fl) (iI (hot ρ x b)) (iI (rCu ρ (8 * x (4 + b) + x b))) = fy_State_stroke_j70 G y1 a r (iI b) (iI out) (iI (hot ρ x b)) (iI (x b + t)) (iI ((1 + fl) * rCu ρ (8 * x (4 + b) + x b))) := by
    rcases hf with rfl | rfl
    · simp (disch := omega) only [fy_State_stroke_j46, s_0 hs1, b0, iI_lit, iI_add, iI_sub, iI_mul, iI_neg, obs, if_true, if_false, Int.reduceEq, Int.reduceLE, Int.reduceLT, Int.reduceAdd, Int.reduceSub, Int.reduceMul, Int.reduceNeg, Nat.reduceEqDiff, Int.add_zero, Int.one_mul]
    · simp (disch := omega) only [fy_State_stroke_j46, s_0 hs1, b0, iI_lit, iI_add, iI_sub, iI_mul, iI_neg, obs, if_true, if_false, Int.reduceEq, Int.reduceLE, Int.reduceLT, Int.reduceAdd, Int.reduceSub, Int.reduceMul, Int.reduceNeg, Nat.reduceEqDiff, show ¬ iI 1 = iI 0 by decide]
  have hC2 : fy_State_stroke_j70 G y1 a r (iI b) (iI out) (iI (hot ρ x b)) (iI (x b + t)) (iI ((1 + fl) * rCu ρ (8 * x (4 + b) + x b))) = fy_State_stroke_j98 G y1 a r (iI b) (iI (hot ρ x b)) (iI (colBy ρ (x b) (x (4 + b)) t (1 + fl))) (iI (x (4 + b))) (iI (onI out)) := by
    have ew : fy_B_within (iI (x b + t + (1 + fl) * rCu ρ (8 * x (4 + b) + x b))) (iI (rC ρ - 1)) = some (iI (colBy ρ (x b) (x (4 + b)) t (1 + fl))) := c_within (v := x b + t + (1 + fl) * rCu ρ (8 * x (4 + b) + x b)) (m := rC ρ - 1) (by omega) (by omega) (by omega) (by omega)
    rcases ho with rfl | rfl
    · simp (disch := omega) only [fy_State_stroke_j70, s_1 hs1, b1, r_col hr1, iI_lit, iI_add, iI_sub, iI_mul, iI_neg, obs, if_true, if_false, Int.reduceEq, Int.reduceLE, Int.reduceLT, Int.reduceAdd, Int.reduceSub, Int.reduceMul, Int.reduceNeg, Nat.reduceEqDiff, ew, on0]
    · simp (disch := omega) only [fy_State_stroke_j70, s_1 hs1, b1, r_col hr1, iI_lit, iI_add, iI_sub, iI_mul, iI_neg, obs, if_true, if_false, Int.reduceEq, Int.reduceLE, Int.reduceLT, Int.reduceAdd, Int.reduceSub, Int.reduceMul, Int.reduceNeg, Nat.reduceEqDiff, ew, show ¬ iI 1 = iI 0 by decide, on1]
  have hir2 := hir (8 * (x (4 + b) + onI out) + colBy ρ (x b) (x (4 + b)) t (1 + fl)) (by omega) (by omega)
  have e2 := r_ir hr1 (z := 8 * (x (4 + b) + onI out) + colBy ρ (x b) (x (4 + b)) t (1 + fl)) (by omega) (by omega)
  have o1 : [2, lab + 20].contains (O (a + 1)) = true := by rw [hs.2.2.2.1 1 (by omega) (by omega)]; simp
  have o2 : [2, lab + 20].contains (O (a + 2)) = true := by rw [hs.2.2.2.1 2 (by omega) (by omega)]; simp
  have o5 : [2, lab + 20].contains (O (a + 5)) = true := by rw [hs.2.2.2.1 5 (by omega) (by omega)]; simp
  have f1' : yF O [2, lab + 20] 0 0 y y1 := f1.m0 (by simp)
  have hLr : [2, lab + 20].contains 1 = false ∧ [2, lab + 20].contains 101 = false := by rcases hlab with rfl | rfl <;> exact ⟨rfl, rfl⟩
  rw [hA, hB, hC2]
  have hgd : strG ρ x b = if x (8 + b) + hot ρ x b ≤ 99 then x (8 + b) + hot ρ x b else 99 := rfl
  have hsv := (strV_b (t := t) (on := onI out) (k := 1 + fl) hw1 hx h1 h2 h7 h8).1
  rw [hsv]
  rcases hir2 with hz | hz
  · have hv4 := ((hv1.w4 (v := x (16 + b) + 1) h1 (show b < 4 by omega)).w0 (v := colBy ρ (x b) (x (4 + b)) t (1 + fl)) h1 (show b < 4 by omega)).w1 (v := x (4 + b) + onI out) h1 (show b < 4 by omega)
    have f4 : yF O [2, lab + 20] 0 0 y (yw (yw (yw y1 (a + 5) b.toNat (iI (x (16 + b) + 1))) (a + 1) b.toNat (iI (colBy ρ (x b) (x (4 + b)) t (1 + fl)))) (a + 2) b.toNat (iI (x (4 + b) + onI out))) := ((f1'.w o5).w o1).w o2
    have u8 : upI (upI (upI x (16 + b) (x (16 + b) + 1)) b (colBy ρ (x b) (x (4 + b)) t (1 + fl))) (4 + b) (x (4 + b) + onI out) (8 + b) = x (8 + b) := by unfold upI; rw [if_neg (by omega), if_neg (by omega), if_neg (by omega)]
    have u12 : upI (upI (upI x (16 + b) (x (16 + b) + 1)) b (colBy ρ (x b) (x (4 + b)) t (1 + fl))) (4 + b) (x (4 + b) + onI out) (12 + b) = x (12 + b) := by unfold upI; rw [if_neg (by omega), if_neg (by omega), if_neg (by omega)]
    obtain ⟨y5, e5, f5, v5⟩ := c_j147 (hr.fr f4 hLr.1 hLr.2) hw1 (hs1.t rfl rfl rfl) hv4 (g := strG ρ x b) (h := hot ρ x b) (hi := 0) h1 h2 (by rw [u8]; omega) (by rw [u12]; omega) hh (by rw [u8]; exact hgd) (Or.inl rfl)
    have hsh : strH ρ x b t (onI out) (1 + fl) = 0 := hz
    refine ⟨y5, ?_, f4.t0 (f5.m0 (by simp)), v5.eq ?_⟩
    · rw [hsh]
      simp (disch := first | omega | (repeat first | exact rfl | refine Eq.trans ty_yw ?_ | refine Eq.trans ty_sF ?_)) only [fy_State_stroke_j98, r_4 hr1, r_c hr1, iI_lit, iI_add, iI_sub, iI_mul, iI_neg, obs, if_true, if_false, Int.reduceEq, Int.reduceLE, Int.reduceLT, Int.reduceAdd, Int.reduceSub, Int.reduceMul, Int.reduceNeg, Nat.reduceEqDiff, iI_le, iI_lt, iI_eq, gR_yw, gI_yw, gN_yw, ck_yw, aL_yw, lget_yw, lsize_yw, c_cell, e2, hz, s_4 hs1, b4, s_w4 hs1, s_0 hs1, s_w0 hs1, s_1 hs1, s_w1 hs1]
      rw [e5]
    · refine str_join h1 (by omega) c8 (fun z => ?_)
      rw [hsh]
      unfold upI
      simp only [if_true]
      by_cases z4 : z = 4 + b
      · rw [if_pos z4, if_neg (by omega), if_pos z4]
      · rw [if_neg z4]
        by_cases z0 : z = b
        · rw [if_pos z0, if_pos z0]
        · rw [if_neg z0, if_neg z0, if_neg z4]
  · have hv4 := hv1.w4 (v := x (16 + b) + 1) h1 (show b < 4 by omega)
    have f4 : yF O [2, lab + 20] 0 0 y (yw y1 (a + 5) b.toNat (iI (x (16 + b) + 1))) := f1'.w o5
    have u8 : upI x (16 + b) (x (16 + b) + 1) (8 + b) = x (8 + b) := by unfold upI; rw [if_neg (by omega)]
    have u12 : upI x (16 + b) (x (16 + b) + 1) (12 + b) = x (12 + b) := by unfold upI; rw [if_neg (by omega)]
    obtain ⟨y5, e5, f5, v5⟩ := c_j147 (hr.fr f4 hLr.1 hLr.2) hw1 (hs1.t rfl rfl rfl) hv4 (g := strG ρ x b) (h := hot ρ x b) (hi := 1) h1 h2 (by rw [u8]; omega) (by rw [u12]; omega) hh (by rw [u8]; exact hgd) (Or.inr rfl)
    have hsh : strH ρ x b t (onI out) (1 + fl) = 1 := hz
    refine ⟨y5, ?_, f4.t0 (f5.m0 (by simp)), v5.eq ?_⟩
    · rw [hsh]
      simp (disch := first | omega | (repeat first | exact rfl | refine Eq.trans ty_yw ?_ | refine Eq.trans ty_sF ?_)) only [fy_State_stroke_j98, r_4 hr1, r_c hr1, iI_lit, iI_add, iI_sub, iI_mul, iI_neg, obs, if_true, if_false, Int.reduceEq, Int.reduceLE, Int.reduceLT, Int.reduceAdd, Int.reduceSub, Int.reduceMul, Int.reduceNeg, Nat.reduceEqDiff, iI_le, iI_lt, iI_eq, gR_yw, gI_yw, gN_yw, ck_yw, aL_yw, lget_yw, lsize_yw, c_cell, e2, hz, s_4 hs1, b4, s_w4 hs1, show ¬ iI 1 = iI 0 by decide]
      rw [e5]
    · refine str_join h1 (by omega) c8 (fun z => ?_)
      rw [hsh]
      unfold upI
      simp only [show ¬ (1 : Int) = 0 by omega, if_false]
      by_cases z0 : z = b
      · rw [if_neg (by omega), if_pos z0, z0]
      · rw [if_neg z0]
        by_cases z4 : z = 4 + b
        · rw [if_neg (by omega), if_pos z4, z4]
        · rw [if_neg z4]
end D2

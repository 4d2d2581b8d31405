/-! LAYER 3: fits, sure, ask: the answers -/
set_option maxRecDepth 100000
def sureV (μ : Mu) (k i : Int) : Int := if talV μ k i (-1) = cntV μ k then -1 else if talV μ k i 0 = cntV μ k then 0 else if talV μ k i 1 = cntV μ k then 1 else -2
def sureA (μ : Mu) (st k : Int) : Int := if 1 ≤ st ∧ st ≤ rR (uR μ) then (if cntV μ k = 0 then -3 else sureV μ k (st - 1)) else -3
def mostV (μ : Mu) (k i : Int) : Int := if (if talV μ k i 1 ≤ talV μ k i 0 then talV μ k i 0 else talV μ k i 1) ≤ talV μ k i (-1) then talV μ k i (-1) else (if talV μ k i 1 ≤ talV μ k i 0 then talV μ k i 0 else talV μ k i 1)
def askN (μ : Mu) (k : Int) : Nat → Int
  | 0 => 0
  | i + 1 => if mostV μ k (askN μ k i) ≤ mostV μ k ((i : Int) + 1) then askN μ k i else (i : Int) + 1
def askA (μ : Mu) (what k : Int) : Int := if 0 ≤ what ∧ what ≤ 1 then (if cntV μ k = 0 then -1 else if what = 0 then askN μ k ((rR (uR μ)).toNat - 1) + 1 else mostV μ k (askN μ k ((rR (uR μ)).toNat - 1))) else -1
section F6
variable {G : ai_G} {O : Nat → Nat} {y : yS} {X r : Nat} {bd ld : Nat → Nat} {μ : Mu} {K : Int → Nat} {sg : Nat → Nat} {s : mS}
theorem askN_b (μ : Mu) (k : Int) (i : Nat) : 0 ≤ askN μ k i ∧ askN μ k i ≤ i := by
  induction i with
  | zero => exact ⟨Int.le_refl _, Int.le_refl _⟩
  | succ i ih =>
    simp only [askN]
    split <;> omega
theorem most_b (hw : wfM μ) (k i : Int) : 0 ≤ mostV μ k i ∧ mostV μ k i ≤ 729 := by
  have a := tal_b hw k i (-1)
  have b := tal_b hw k i 0
  have c := tal_b hw k i 1
  unfold mostV
  generalize talV μ k i (-1) = u at *
  generalize talV μ k i 0 = v at *
  generalize talV μ k i 1 = w at *
  by_cases c1 : w ≤ v <;> by_cases c2 : v ≤ u <;> by_cases c3 : w ≤ u <;> simp only [c1, c2, c3, if_true, if_false] <;> omega
theorem M_fits (h : MR μ s) (hw : wfM μ) {k : Int} (h1 : -2147483648 ≤ k) (h2 : k < 2147483648) : ∃ s', fm_fits s (iI k) = some (iI (cntV μ k), s') ∧ MR μ s' := by
  obtain ⟨s', e, f, -⟩ := m_layFits h hw h1 h2
  exact ⟨s', by unfold fm_fits; rw [e]; rfl, h.frm f rfl rfl⟩
theorem X_fits (h : XR G y μ X) (hw : wfM μ) {k : Int} (h1 : -2147483648 ≤ k) (h2 : k < 2147483648) : ∃ y', fy_B_fits G y X (iI k) = some (iI (cntV μ k), y') ∧ XR G y' μ X ∧ bnd y y' := by
  obtain ⟨O, r, bd, ld, K, sg, h⟩ := h
  obtain ⟨y', e, f, n, -⟩ := c_layFits h hw h1 h2
  have h' := h.fr f rfl
  refine ⟨y', ?_, XR.of h', f.room (by omega) (by omega)⟩
  unfold fy_B_fits
  rw [x_c h.1, obs, e, obs, gI_ok h'.1.1.1, obs, n]
theorem M_sure (h : MR μ s) (hw : wfM μ) {st k : Int} (h1 : -2147483648 ≤ k) (h2 : k < 2147483648) (h3 : -2147483648 ≤ st) (h4 : st < 2147483648) : ∃ s', fm_sure s (iI st) (iI k) = some (iI (sureA μ st k), s') ∧ MR μ s' := by
  have hr := hw.1.2.1
  unfold fm_sure sureA
  simp (disch := omega) only [h.1.2.1, iI_lit, iI_add, iI_sub, iI_mul, iI_neg, obs, if_true, if_false, Int.reduceEq, Int.reduceLE, Int.reduceLT, Int.reduceAdd, Int.reduceSub, Int.reduceMul, Int.reduceNeg, Nat.reduceEqDiff, m_isIn]
  by_cases hst : 1 ≤ st ∧ st ≤ rR (uR μ)
  rotate_left
  · exact ⟨s, by simp only [if_neg hst, iI_lit, iI_add, iI_sub, iI_mul, iI_neg, obs, if_true, if_false, Int.reduceEq, Int.reduceLE, Int.reduceLT, Int.reduceAdd, Int.reduceSub, Int.reduceMul, Int.reduceNeg, Nat.reduceEqDiff], h⟩
  obtain ⟨s', e, f, T⟩ := m_layFits h hw h1 h2
  refine ⟨s', ?_, h.frm f rfl rfl⟩
  have hc := cnt_b hw k
  simp (disch := omega) only [if_pos hst, iI_lit, iI_add, iI_sub, iI_mul, iI_neg, obs, if_true, if_false, Int.reduceEq, Int.reduceLE, Int.reduceLT, Int.reduceAdd, Int.reduceSub, Int.reduceMul, Int.reduceNeg, Nat.reduceEqDiff, show ¬ iI 1 = iI 0 by decide, e, iI_le, iI_lt, iI_eq]
  by_cases h0 : cntV μ k = 0
  · simp only [if_pos h0]
  rw [if_neg h0, if_neg h0]
  have ta := tal_b hw k (st - 1) (-1)
  have tb := tal_b hw k (st - 1) 0
  have tc := tal_b hw k (st - 1) 1
  have ts := tal_sum hw k (i := st - 1) (by omega) (by omega)
  have qa := T (st - 1) (-1) (by omega) (by omega) (by omega) (by omega)
  have qb := T (st - 1) 0 (by omega) (by omega) (by omega) (by omega)
  have qc := T (st - 1) 1 (by omega) (by omega) (by omega) (by omega)
  have step : ∀ (fd e : Int) (t : Int), -1 ≤ e → e ≤ 1 → 0 ≤ t → t ≤ 729 → s'.2.2.1 42 (3 * (st - 1) + e + 1).toNat = iI t → fm_sure_b35 s' (iI st) (iI (cntV μ k)) (iI fd, iI e) = some (.inl (iI (if t = cntV μ k then e else fd), iI (e + 1))) := by
    intro fd e t e1 e2 t1 t2 hq
    simp (disch := omega) only [fm_sure_b35, iI_lit, iI_add, iI_sub, iI_mul, iI_neg, obs, if_true, if_false, Int.reduceEq, Int.reduceLE, Int.reduceLT, Int.reduceAdd, Int.reduceSub, Int.reduceMul, Int.reduceNeg, Nat.reduceEqDiff, iI_le, iI_lt, iI_eq, ld_i, sto_i, hq]
    rw [if_neg (by omega)]
    split <;> rfl
  have out : ∀ fd : Int, fm_sure_b35 s' (iI st) (iI (cntV μ k)) (iI fd, iI 2) = some (.inr (iI fd)) := by
    intro fd
    simp (disch := omega) only [fm_sure_b35, iI_lit, iI_add, iI_sub, iI_mul, iI_neg, obs, if_true, if_false, Int.reduceEq, Int.reduceLE, Int.reduceLT, Int.reduceAdd, Int.reduceSub, Int.reduceMul, Int.reduceNeg, Nat.reduceEqDiff, iI_le, iI_lt, iI_eq]
  have : lp (fm_sure_b35 s' (iI st) (iI (cntV μ k))) (iI (-2), iI (-1)) = some (iI (sureV μ k (st - 1))) := by
    rw [lp_back (step (-2) (-1) _ (by omega) (by omega) ta.1 ta.2 qa), show (-1 : Int) + 1 = 0 from rfl, lp_back (step _ 0 _ (by omega) (by omega) tb.1 tb.2 qb), show (0 : Int) + 1 = 1 from rfl, lp_back (step _ 1 _ (by omega) (by omega) tc.1 tc.2 qc), show (1 : Int) + 1 = 2 from rfl, lp_out (out _)]
    congr 2
    unfold sureV
    by_cases ca : talV μ k (st - 1) (-1) = cntV μ k
    · rw [if_pos ca, if_neg (show ¬ talV μ k (st - 1) 1 = cntV μ k by omega), if_neg (show ¬ talV μ k (st - 1) 0 = cntV μ k by omega), if_pos ca]
    · by_cases cb : talV μ k (st - 1) 0 = cntV μ k
      · rw [if_neg (show ¬ talV μ k (st - 1) 1 = cntV μ k by omega), if_pos cb, if_neg ca, if_pos cb]
      · rw [if_neg cb, if_neg ca, if_neg ca, if_neg cb]
  rw [this]
  rfl
theorem X_sure (h : XR G y μ X) (hw : wfM μ) {st k : Int} (h1 : -2147483648 ≤ k) (h2 : k < 2147483648) (h3 : -2147483648 ≤ st) (h4 : st < 2147483648) : ∃ y', fy_B_sure G y X (iI st) (iI k) = some (iI (sureA μ st k), y') ∧ XR G y' μ X ∧ bnd y y' := by
  obtain ⟨O, r, bd, ld, K, sg, h⟩ := h
  have hr := hw.1.2.1
  unfold fy_B_sure sureA
  simp (disch := omega) only [x_0 h.1, r_row h.2.1, iI_lit, iI_add, iI_sub, iI_mul, iI_neg, obs, if_true, if_false, Int.reduceEq, Int.reduceLE, Int.reduceLT, Int.reduceAdd, Int.reduceSub, Int.reduceMul, Int.reduceNeg, Nat.reduceEqDiff, c_isIn]
  by_cases hst : 1 ≤ st ∧ st ≤ rR (uR μ)
  rotate_left
  · exact ⟨y, by simp only [if_neg hst, iI_lit, iI_add, iI_sub, iI_mul, iI_neg, obs, if_true, if_false, Int.reduceEq, Int.reduceLE, Int.reduceLT, Int.reduceAdd, Int.reduceSub, Int.reduceMul, Int.reduceNeg, Nat.reduceEqDiff], XR.of h, bnd.refl⟩
  obtain ⟨s', e, f, n, T⟩ := c_layFits h hw h1 h2
  have h' := h.fr f rfl
  refine ⟨s', ?_, XR.of h', f.room (by omega) (by omega)⟩
  have hc := cnt_b hw k
  have eg : gI 0 27 s' X = some (iI (cntV μ k)) := by rw [gI_ok h'.1.1.1, n]
  simp (disch := omega) only [if_pos hst, iI_lit, iI_add, iI_sub, iI_mul, iI_neg, obs, if_true, if_false, Int.reduceEq, Int.reduceLE, Int.reduceLT, Int.reduceAdd, Int.reduceSub, Int.reduceMul, Int.reduceNeg, Nat.reduceEqDiff, show ¬ iI 1 = iI 0 by decide, x_c h.1, e, eg, iI_le, iI_lt, iI_eq]
  by_cases h0 : cntV μ k = 0
  · simp only [if_pos h0]
  rw [if_neg h0, if_neg h0]
  have ta := tal_b hw k (st - 1) (-1)
  have tb := tal_b hw k (st - 1) 0
  have tc := tal_b hw k (st - 1) 1
  have qa := T (st - 1) (-1) (by omega) (by omega) (by omega) (by omega)
  have qb := T (st - 1) 0 (by omega) (by omega) (by omega) (by omega)
  have qc := T (st - 1) 1 (by omega) (by omega) (by omega) (by omega)
  have step : ∀ (e : Int) (t : Int), -1 ≤ e → e ≤ 1 → 0 ≤ t → t ≤ 729 → ya s' (X + 37) (3 * (st - 1) + e + 1).toNat = iI t → fy_B_sure_b35 G s' X (iI st) (iI e) = if t = cntV μ k then some (.inr (.inr (iI e, s'))) else some (.inl (iI (e + 1))) := by
    intro e t e1 e2 t1 t2 hq
    have a37 : aI s' (X + 37) (iI (3 * (st - 1) + e + 1)) = some (iI t) := by rw [aI_n 18 (x_t37 h'.1) (by omega) (by omega) (by omega), hq]
    simp (disch := omega) only [fy_B_sure_b35, iI_lit, iI_add, iI_sub, iI_mul, iI_neg, obs, if_true, if_false, Int.reduceEq, Int.reduceLE, Int.reduceLT, Int.reduceAdd, Int.reduceSub, Int.reduceMul, Int.reduceNeg, Nat.reduceEqDiff, iI_le, iI_lt, iI_eq, x_26 h'.1, a37, eg]
    rw [if_neg (by omega)]
  have out : fy_B_sure_b35 G s' X (iI st) (iI 2) = some (.inr (.inl ())) := by
    simp (disch := omega) only [fy_B_sure_b35, iI_lit, iI_add, iI_sub, iI_mul, iI_neg, obs, if_true, if_false, Int.reduceEq, Int.reduceLE, Int.reduceLT, Int.reduceAdd, Int.reduceSub, Int.reduceMul, Int.reduceNeg, Nat.reduceEqDiff, iI_le, iI_lt, iI_eq]
  have sa := step (-1) _ (by omega) (by omega) ta.1 ta.2 qa
  have sb := step 0 _ (by omega) (by omega) tb.1 tb.2 qb
  have sc := step 1 _ (by omega) (by omega) tc.1 tc.2 qc
  unfold sureV
  by_cases ca : talV μ k (st - 1) (-1) = cntV μ k
  · rw [if_pos ca] at sa ⊢
    rw [lp_out sa]
    rfl
  · rw [if_neg ca] at sa ⊢
    rw [lp_back sa, show (-1 : Int) + 1 = 0 from rfl]
    by_cases cb : talV μ k (st - 1) 0 = cntV μ k
    · rw [if_pos cb] at sb ⊢
      rw [lp_out sb]
      rfl
    · rw [if_neg cb] at sb ⊢
      rw [lp_back sb, show (0 : Int) + 1 = 1 from rfl]
      by_cases cc : talV μ k (st - 1) 1 = cntV μ k
      · rw [if_pos cc] at sc ⊢
        rw [lp_out sc]
        rfl
      · rw [if_neg cc] at sc ⊢
        rw [lp_back sc, show (1 : Int) + 1 = 2 from rfl, lp_out out]
        rfl
theorem m_leftBy (hw : wfM μ) {k i : Int} (T : talM (rR (uR μ)) s (talV μ k)) (h1 : 0 ≤ i) (h2 : i < rR (uR μ)) : fm_leftBy s (iI i) = some (iI (mostV μ k i)) := by
  have hr := hw.1.2.1
  have ta := tal_b hw k i (-1)
  have tb := tal_b hw k i 0
  have tc := tal_b hw k i 1
  have qa := T i (-1) h1 h2 (by omega) (by omega)
  have qb := T i 0 h1 h2 (by omega) (by omega)
  have qc := T i 1 h1 h2 (by omega) (by omega)
  have step : ∀ (m c t : Int), 0 ≤ c → c ≤ 2 → 0 ≤ t → t ≤ 729 → 0 ≤ m → m ≤ 729 → s.2.2.1 42 (3 * i + c).toNat = iI t → fm_leftBy_b4 s (iI i) (iI m, iI c) = some (.inl (iI (if t ≤ m then m else t), iI (c + 1))) := by
    intro m c t c1 c2 t1 t2 m1 m2 hq
    simp (disch := omega) only [fm_leftBy_b4, iI_lit, iI_add, iI_sub, iI_mul, iI_neg, obs, if_true, if_false, Int.reduceEq, Int.reduceLE, Int.reduceLT, Int.reduceAdd, Int.reduceSub, Int.reduceMul, Int.reduceNeg, Nat.reduceEqDiff, iI_le, iI_lt, iI_eq, ld_i, sto_i, hq]
    rw [if_neg (by omega)]
    split <;> rfl
  have out : ∀ m : Int, fm_leftBy_b4 s (iI i) (iI m, iI 3) = some (.inr (iI m)) := by
    intro m
    simp (disch := omega) only [fm_leftBy_b4, iI_lit, iI_add, iI_sub, iI_mul, iI_neg, obs, if_true, if_false, Int.reduceEq, Int.reduceLE, Int.reduceLT, Int.reduceAdd, Int.reduceSub, Int.reduceMul, Int.reduceNeg, Nat.reduceEqDiff, iI_le, iI_lt, iI_eq]
  have hm1 : 0 ≤ (if talV μ k i (-1) ≤ 0 then 0 else talV μ k i (-1)) ∧ (if talV μ k i (-1) ≤ 0 then 0 else talV μ k i (-1)) ≤ 729 := by split <;> omega
  have hm2 : 0 ≤ (if talV μ k i 0 ≤ (if talV μ k i (-1) ≤ 0 then 0 else talV μ k i (-1)) then (if talV μ k i (-1) ≤ 0 then 0 else talV μ k i (-1)) else talV μ k i 0) ∧ (if talV μ k i 0 ≤ (if talV μ k i (-1) ≤ 0 then 0 else talV μ k i (-1)) then (if talV μ k i (-1) ≤ 0 then 0 else talV μ k i (-1)) else talV μ k i 0) ≤ 729 := by
    generalize (if talV μ k i (-1) ≤ 0 then 0 else talV μ k i (-1)) = z at *
    split <;> omega
  have : lp (fm_leftBy_b4 s (iI i)) (iI 0, iI 0) = some (iI (mostV μ k i)) := by
    rw [lp_back (step 0 0 (talV μ k i (-1)) (by omega) (by omega) ta.1 ta.2 (by omega) (by omega) (by rw [show 3 * i + 0 = 3 * i + (-1) + 1 by omega]; exact qa)), show (0 : Int) + 1 = 1 from rfl]
    rw [lp_back (step _ 1 (talV μ k i 0) (by omega) (by omega) tb.1 tb.2 hm1.1 hm1.2 (by rw [show 3 * i + 1 = 3 * i + 0 + 1 by omega]; exact qb)), show (1 : Int) + 1 = 2 from rfl]
    rw [lp_back (step _ 2 (talV μ k i 1) (by omega) (by omega) tc.1 tc.2 hm2.1 hm2.2 (by rw [show 3 * i + 2 = 3 * i + 1 + 1 by omega]; exact qc)), show (2 : Int) + 1 = 3 from rfl, lp_out (out _)]
    congr 2
    unfold mostV
    generalize talV μ k i (-1) = a at *
    generalize talV μ k i 0 = b at *
    generalize talV μ k i 1 = c at *
    clear step out qa qb qc hm1 hm2
    by_cases c1 : a ≤ 0 <;> by_cases c2 : b ≤ a <;> by_cases c3 : c ≤ b <;> by_cases c4 : c ≤ a <;> by_cases c5 : b ≤ 0 <;> by_cases c6 : c ≤ 0 <;> simp only [c1, c2, c3, c4, c5, c6, if_true, if_false] <;> omega
  unfold fm_leftBy
  rw [show ((0, 0) : Int32 × Int32) = (iI 0, iI 0) from rfl, this]
  rfl
theorem c_mostOf (hw : wfM μ) (hS : xS O y X r) {k i : Int} (T : talY (rR (uR μ)) y X (talV μ k)) (h1 : 0 ≤ i) (h2 : i < rR (uR μ)) : fy_B_mostOf G y X (iI i) = some (iI (mostV μ k i)) := by
  have hr := hw.1.2.1
  have ta := tal_b hw k i (-1)
  have tb := tal_b hw k i 0
  have tc := tal_b hw k i 1
  have qa : aI y (X + 37) (iI (3 * i)) = some (iI (talV μ k i (-1))) := by rw [aI_n 18 (x_t37 hS) (by omega) (by omega) (by omega), show 3 * i = 3 * i + (-1) + 1 by omega, T i (-1) h1 h2 (by omega) (by omega)]
  have qb : aI y (X + 37) (iI (3 * i + 1)) = some (iI (talV μ k i 0)) := by rw [aI_n 18 (x_t37 hS) (by omega) (by omega) (by omega), show 3 * i + 1 = 3 * i + 0 + 1 by omega, T i 0 h1 h2 (by omega) (by omega)]
  have qc : aI y (X + 37) (iI (3 * i + 2)) = some (iI (talV μ k i 1)) := by rw [aI_n 18 (x_t37 hS) (by omega) (by omega) (by omega), show 3 * i + 2 = 3 * i + 1 + 1 by omega, T i 1 h1 h2 (by omega) (by omega)]
  simp only [fy_B_mostOf, x_26 hS, iI_lit, iI_add, iI_sub, iI_mul, iI_neg, obs, if_true, if_false, Int.reduceEq, Int.reduceLE, Int.reduceLT, Int.reduceAdd, Int.reduceSub, Int.reduceMul, Int.reduceNeg, Nat.reduceEqDiff, qa, qb, qc]
  rw [imax_i (by omega) (by omega) (by omega) (by omega), imax_i (by omega) (by omega) (by split <;> omega) (by split <;> omega)]
  rfl
theorem M_ask (h : MR μ s) (hw : wfM μ) {what k : Int} (h1 : -2147483648 ≤ k) (h2 : k < 2147483648) (h3 : -2147483648 ≤ what) (h4 : what < 2147483648) : ∃ s', fm_ask s (iI what) (iI k) = some (iI (askA μ what k), s') ∧ MR μ s' := by
  have hr := hw.1.2.1
  unfold fm_ask askA
  simp (disch := omega) only [iI_lit, iI_add, iI_sub, iI_mul, iI_neg, obs, if_true, if_false, Int.reduceEq, Int.reduceLE, Int.reduceLT, Int.reduceAdd, Int.reduceSub, Int.reduceMul, Int.reduceNeg, Nat.reduceEqDiff, m_isIn]
  by_cases hst : 0 ≤ what ∧ what ≤ 1
  rotate_left
  · exact ⟨s, by simp only [if_neg hst, iI_lit, iI_add, iI_sub, iI_mul, iI_neg, obs, if_true, if_false, Int.reduceEq, Int.reduceLE, Int.reduceLT, Int.reduceAdd, Int.reduceSub, Int.reduceMul, Int.reduceNeg, Nat.reduceEqDiff], h⟩
  obtain ⟨s', e, f, T⟩ := m_layFits h hw h1 h2
  refine ⟨s', ?_, h.frm f rfl rfl⟩
  have hc := cnt_b hw k
  simp (disch := omega) only [if_pos hst, iI_lit, iI_add, iI_sub, iI_mul, iI_neg, obs, if_true, if_false, Int.reduceEq, Int.reduceLE, Int.reduceLT, Int.reduceAdd, Int.reduceSub, Int.reduceMul, Int.reduceNeg, Nat.reduceEqDiff, show ¬ iI 1 = iI 0 by decide, e, iI_le, iI_lt, iI_eq]
  by_cases h0 : cntV μ k = 0
  · simp only [if_pos h0]
  rw [if_neg h0, if_neg h0]
  have e47 : s'.1 47 = iI (rR (uR μ)) := by rw [f.s 47 rfl]; exact h.1.2.1
  have : lp (fm_ask_b24 s' (iI what)) (iI 0, iI 1) = some (iI (askN μ k ((rR (uR μ)).toNat - 1))) := by
    refine lp_seq (fun i => (iI (askN μ k i), iI ((i : Int) + 1))) ((rR (uR μ)).toNat - 1) (fun i hi => ?_) ?_
    · have hb := askN_b μ k i
      have m1 := m_leftBy hw T (i := (i : Int) + 1) (by omega) (by omega)
      have m2 := m_leftBy hw T (i := askN μ k i) (by omega) (by omega)
      have b1 := most_b hw k ((i : Int) + 1)
      have b2 := most_b hw k (askN μ k i)
      simp (disch := omega) only [fm_ask_b24, e47, iI_lit, iI_add, iI_sub, iI_mul, iI_neg, obs, if_true, if_false, Int.reduceEq, Int.reduceLE, Int.reduceLT, Int.reduceAdd, Int.reduceSub, Int.reduceMul, Int.reduceNeg, Nat.reduceEqDiff, iI_le, iI_lt, iI_eq, m1, m2, askN]
      rw [if_neg (by omega)]
      split <;> rfl
    · simp (disch := omega) only [fm_ask_b24, e47, iI_lit, iI_add, iI_sub, iI_mul, iI_neg, obs, if_true, if_false, Int.reduceEq, Int.reduceLE, Int.reduceLT, Int.reduceAdd, Int.reduceSub, Int.reduceMul, Int.reduceNeg, Nat.reduceEqDiff, iI_le, iI_lt, iI_eq]
      rw [if_pos (by omega)]
  have hb := askN_b μ k ((rR (uR μ)).toNat - 1)
  have m9 := m_leftBy hw T (i := askN μ k ((rR (uR μ)).toNat - 1)) (by omega) (by omega)
  rw [this]
  simp only [obs, m9]
  by_cases c : what = 0
  · rw [if_pos c, if_pos c, iI_add]
  · rw [if_neg c, if_neg c]
theorem X_ask (h : XR G y μ X) (hw : wfM μ) {what k : Int} (h1 : -2147483648 ≤ k) (h2 : k < 2147483648) (h3 : -2147483648 ≤ what) (h4 : what < 2147483648) : ∃ y', fy_B_ask G y X (iI what) (iI k) = some (iI (askA μ what k), y') ∧ XR G y' μ X ∧ bnd y y' := by
  obtain ⟨O, r, bd, ld, K, sg, h⟩ := h
  have hr := hw.1.2.1
  unfold fy_B_ask askA
  simp (disch := omega) only [iI_lit, iI_add, iI_sub, iI_mul, iI_neg, obs, if_true, if_false, Int.reduceEq, Int.reduceLE, Int.reduceLT, Int.reduceAdd, Int.reduceSub, Int.reduceMul, Int.reduceNeg, Nat.reduceEqDiff, c_isIn]
  by_cases hst : 0 ≤ what ∧ what ≤ 1
  rotate_left
  · exact ⟨y, by simp only [if_neg hst, iI_lit, iI_add, iI_sub, iI_mul, iI_neg, obs, if_true, if_false, Int.reduceEq, Int.reduceLE, Int.reduceLT, Int.reduceAdd, Int.reduceSub, Int.reduceMul, Int.reduceNeg, Nat.reduceEqDiff], XR.of h, bnd.refl⟩
  obtain ⟨s', e, f, n, T⟩ := c_layFits h hw h1 h2
  have h' := h.fr f rfl
  refine ⟨s', ?_, XR.of h', f.room (by omega) (by omega)⟩
  have hc := cnt_b hw k
  have eg : gI 0 27 s' X = some (iI (cntV μ k)) := by rw [gI_ok h'.1.1.1, n]
  simp (disch := omega) only [if_pos hst, iI_lit, iI_add, iI_sub, iI_mul, iI_neg, obs, if_true, if_false, Int.reduceEq, Int.reduceLE, Int.reduceLT, Int.reduceAdd, Int.reduceSub, Int.reduceMul, Int.reduceNeg, Nat.reduceEqDiff, show ¬ iI 1 = iI 0 by decide, x_c h.1, e, eg, iI_le, iI_lt, iI_eq]
  by_cases h0 : cntV μ k = 0
  · simp only [if_pos h0]
  rw [if_neg h0, if_neg h0]
  have hx := h'.xc
  have : lp (fy_B_ask_b30 G s' X (iI what)) (iI 0, iI 1) = some (iI (askN μ k ((rR (uR μ)).toNat - 1))) := by
    refine lp_seq (fun i => (iI (askN μ k i), iI ((i : Int) + 1))) ((rR (uR μ)).toNat - 1) (fun i hi => ?_) ?_
    · have hb := askN_b μ k i
      have m1 := c_mostOf (G := G) hw hx.1 T (i := (i : Int) + 1) (by omega) (by omega)
      have m2 := c_mostOf (G := G) hw hx.1 T (i := askN μ k i) (by omega) (by omega)
      have b1 := most_b hw k ((i : Int) + 1)
      have b2 := most_b hw k (askN μ k i)
      simp (disch := omega) only [fy_B_ask_b30, x_0 hx.1, r_row hx.2.1, x_c hx.1, iI_lit, iI_add, iI_sub, iI_mul, iI_neg, obs, if_true, if_false, Int.reduceEq, Int.reduceLE, Int.reduceLT, Int.reduceAdd, Int.reduceSub, Int.reduceMul, Int.reduceNeg, Nat.reduceEqDiff, iI_le, iI_lt, iI_eq, m1, m2, askN]
      rw [if_neg (by omega)]
      split <;> rfl
    · simp (disch := omega) only [fy_B_ask_b30, x_0 hx.1, r_row hx.2.1, iI_lit, iI_add, iI_sub, iI_mul, iI_neg, obs, if_true, if_false, Int.reduceEq, Int.reduceLE, Int.reduceLT, Int.reduceAdd, Int.reduceSub, Int.reduceMul, Int.reduceNeg, Nat.reduceEqDiff, iI_le, iI_lt, iI_eq]
      rw [if_pos (by omega)]
  have hb := askN_b μ k ((rR (uR μ)).toNat - 1)
  have m9 := c_mostOf (G := G) hw hx.1 T (i := askN μ k ((rR (uR μ)).toNat - 1)) (by omega) (by omega)
  rw [this]
  simp only [obs, m9, x_c hx.1]
  by_cases c : what = 0
  · rw [if_pos c, if_pos c, iI_add]
  · rw [if_neg c, if_neg c]
end F6

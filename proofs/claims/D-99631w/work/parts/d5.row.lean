/-! LAYER 3, the component: copies of states; rows of steers -/
set_option maxRecDepth 100000
/-- the first k of an int array are copied -/
def cA (y : yS) (b a k : Nat) : yS := sA y a (va_cpy (ya y b) (ya y a) 0 0 k)
theorem cA_get {y : yS} {b a k a' i : Nat} : ya (cA y b a k) a' i = if a' = a then (if i < k then ya y b i else ya y a i) else ya y a' i := by
  show va_up (ya y) a (va_cpy (ya y b) (ya y a) 0 0 k) a' i = _
  unfold va_up va_cpy
  by_cases h : a' = a
  · rw [if_pos h, if_pos h]
    by_cases h2 : i < k
    · rw [if_pos ⟨Nat.zero_le _, by omega⟩, if_pos h2, Nat.zero_add, Nat.sub_zero]
    · rw [if_neg (by omega), if_neg h2]
  · rw [if_neg h, if_neg h]
theorem cp_n {n0 n1 : Nat} {y y' : yS} {a b : Nat} {z : Int} (h0 : yt y b = some (.inl (0, n0))) (h1 : yt y a = some (.inl (0, n1))) (e : yt y' = yt y) (h2 : 0 ≤ z) (h3 : z ≤ n0) (h4 : z ≤ n1) (h5 : z < 2147483648) : cpI y' b (iI 0) a (iI 0) (iI z) = some (cA y' b a z.toNat) := by
  have e0 : (iI 0).toNatClampNeg = 0 := by decide
  have ek : (iI z).toNatClampNeg = z.toNat := iI_clamp h2 h5
  unfold cpI
  rw [show yt y' b = some (.inl (0, n0)) by rw [e]; exact h0, show yt y' a = some (.inl (0, n1)) by rw [e]; exact h1]
  simp only [e0, ek, Nat.zero_add]
  rw [if_pos]
  · rfl
  · refine ⟨?_, trivial, by decide, by omega, by omega, List.all_eq_true.mpr (fun i _ => rfl)⟩
    rw [i0]
    simp (disch := omega) only [iI_lt]
    omega
theorem cA_ne {y : yS} {b a k a' : Nat} (h : ¬ a' = a) : ya (cA y b a k) a' = ya y a' := if_neg h
theorem cA_eq {y : yS} {b a k i : Nat} (h : i < k) : ya (cA y b a k) a i = ya y b i := by rw [cA_get, if_pos rfl, if_pos h]
def stC (y : yS) (a b : Nat) (v : Int32) : yS := sF (cA (cA (cA (cA (cA (cA y (b + 1) (a + 1) 4) (b + 2) (a + 2) 4) (b + 3) (a + 3) 4) (b + 4) (a + 4) 4) (b + 5) (a + 5) 4) (b + 6) (a + 6) 7) a 6 v
section CA
variable {y : yS} {G : ai_G} {a b c k i j : Nat} {w : Int32}
theorem ty_cA : yt (cA y b i j) = yt y := rfl
theorem gR_cA : gR c k (cA y b i j) a = gR c k y a := rfl
theorem gI_cA : gI c k (cA y b i j) a = gI c k y a := rfl
theorem ck_cA : ck c (cA y b i j) a = ck c y a := rfl
end CA
section D5
variable {G : ai_G} {O : Nat → Nat} {y : yS} {ρ : Rv} {x : Int → Int} {X r : Nat} {bd ld : Nat → Nat}
theorem c_stOfE {a lab b lb : Nat} {n : Int} (hs : shY O y a lab) (hb : shY O y b lb) (hv : vlY y n b x) (hd : a + 6 < b ∨ b + 6 < a) (hn : n ≤ 7) : fy_State_of G y a b = some (stC y a b (iI (x 27))) ∧ vlY (stC y a b (iI (x 27))) n a x := by
  have t0 : yt y (a + 1) = some (.inl (0, 4)) := s_t hs (k := 0) (by omega)
  have t1 : yt y (a + 2) = some (.inl (0, 4)) := s_t hs (k := 1) (by omega)
  have t2 : yt y (a + 3) = some (.inl (0, 4)) := s_t hs (k := 2) (by omega)
  have t3 : yt y (a + 4) = some (.inl (0, 4)) := s_t hs (k := 3) (by omega)
  have t4 : yt y (a + 5) = some (.inl (0, 4)) := s_t hs (k := 4) (by omega)
  have u0 : yt y (b + 1) = some (.inl (0, 4)) := s_t hb (k := 0) (by omega)
  have u1 : yt y (b + 2) = some (.inl (0, 4)) := s_t hb (k := 1) (by omega)
  have u2 : yt y (b + 3) = some (.inl (0, 4)) := s_t hb (k := 2) (by omega)
  have u3 : yt y (b + 4) = some (.inl (0, 4)) := s_t hb (k := 3) (by omega)
  have u4 : yt y (b + 5) = some (.inl (0, 4)) := s_t hb (k := 4) (by omega)
  have t5 := s_t7 hs
  have u5 := s_t7 hb
  have esd := s_sd hb hv
  refine ⟨?_, ?_⟩
  · unfold stC
    simp (disch := first | omega | (repeat first | exact rfl | refine Eq.trans ty_yw ?_ | refine Eq.trans ty_sF ?_ | refine Eq.trans ty_cA ?_)) only [fy_State_of, iI_lit, iI_add, iI_sub, iI_mul, iI_neg, obs, if_true, if_false, Int.reduceEq, Int.reduceLE, Int.reduceLT, Int.reduceAdd, Int.reduceSub, Int.reduceMul, Int.reduceNeg, Nat.reduceEqDiff, gR_cA, gI_cA, s_0 hs, s_1 hs, s_2 hs, s_3 hs, s_4 hs, s_5 hs, s_0 hb, s_1 hb, s_2 hb, s_3 hb, s_4 hb, s_5 hb, cp_n u0 t0, cp_n u1 t1, cp_n u2 t2, cp_n u3 t3, cp_n u4 t4, cp_n u5 t5, esd, s_wsd hs, Int.reduceToNat]
  · refine ⟨fun e e1 e2 => ?_, fun l l1 l2 => ?_, ?_⟩
    · obtain ⟨v0, v1, v2, v3, v4⟩ := hv.1 e e1 e2
      refine ⟨?_, ?_, ?_, ?_, ?_⟩
      · show ya (cA _ _ _ _) _ _ = _
        rw [cA_ne (by omega), cA_ne (by omega), cA_ne (by omega), cA_ne (by omega), cA_ne (by omega), cA_eq (by omega)]
        exact v0
      · show ya (cA _ _ _ _) _ _ = _
        rw [cA_ne (by omega), cA_ne (by omega), cA_ne (by omega), cA_ne (by omega), cA_eq (by omega), cA_ne (by omega)]
        exact v1
      · show ya (cA _ _ _ _) _ _ = _
        rw [cA_ne (by omega), cA_ne (by omega), cA_ne (by omega), cA_eq (by omega), cA_ne (by omega), cA_ne (by omega)]
        exact v2
      · show ya (cA _ _ _ _) _ _ = _
        rw [cA_ne (by omega), cA_ne (by omega), cA_eq (by omega), cA_ne (by omega), cA_ne (by omega), cA_ne (by omega)]
        exact v3
      · show ya (cA _ _ _ _) _ _ = _
        rw [cA_ne (by omega), cA_eq (by omega), cA_ne (by omega), cA_ne (by omega), cA_ne (by omega), cA_ne (by omega)]
        exact v4
    · show ya (cA _ _ _ _) _ _ = _
      have v5 := hv.2.1 l l1 l2
      rw [cA_eq (by omega), cA_ne (by omega), cA_ne (by omega), cA_ne (by omega), cA_ne (by omega), cA_ne (by omega)]
      exact v5
    · unfold stC
      rw [sF_get, if_pos ⟨rfl, rfl⟩]
theorem stC_fr {a lab b : Nat} {v : Int32} (hs : shY O y a lab) (h5 : Nat.beq lab 5 = false) : yF O [lab + 20, 100 + lab] 0 0 y (stC y a b v) := by
  have o : ∀ i, 1 ≤ i → i ≤ 6 → [lab + 20, 100 + lab].contains (O (a + i)) = true := fun i i1 i2 => by rw [hs.2.2.2.1 i i1 i2]; simp
  have o6 : [lab + 20, 100 + lab].contains (lbF O a 6) = true := by
    unfold lbF
    rw [hs.2.2.1, if_neg (Nat.ne_of_beq_eq_false h5)]
    simp
  exact ((((((yF.refl.sa (o 1 (by omega) (by omega))).sa (o 2 (by omega) (by omega))).sa (o 3 (by omega) (by omega))).sa (o 4 (by omega) (by omega))).sa (o 5 (by omega) (by omega))).sa (o 6 (by omega) (by omega))).sf o6
theorem c_stOf {a lab b lb : Nat} {n : Int} (hs : shY O y a lab) (hb : shY O y b lb) (hv : vlY y n b x) (hd : a + 6 < b ∨ b + 6 < a) (hn : n ≤ 7) (h5 : Nat.beq lab 5 = false) : ∃ y', fy_State_of G y a b = some y' ∧ yF O [lab + 20, 100 + lab] 0 0 y y' ∧ vlY y' n a x := by
  obtain ⟨e1, e2⟩ := c_stOfE (G := G) hs hb hv hd hn
  exact ⟨_, e1, stC_fr hs h5, e2⟩
theorem c_steerOf {v n k : Int} (h1 : 0 ≤ v) (h2 : v < 2147483648) (h3 : 0 ≤ k) (h4 : k < n) (h5 : n ≤ 6) : fy_B_steerOf (iI v) (iI n) (iI k) = some (iI (dig v n k)) := by
  have hp := p3_pos (n - 1 - k)
  have hl := p3_le (z := n - 1 - k) (by omega)
  have e : fy_B_power (iI 3) (iI (n - 1 - k)) = some (iI (p3 (n - 1 - k))) := c_power (by omega) (by omega)
  have hd : 0 ≤ v / p3 (n - 1 - k) := Int.ediv_nonneg h1 (by omega)
  have hd2 : v / p3 (n - 1 - k) ≤ v := Int.ediv_le_self _ h1
  simp only [fy_B_steerOf, iI_lit, iI_add, iI_sub, iI_mul, iI_neg, obs, if_true, if_false, Int.reduceEq, Int.reduceLE, Int.reduceLT, Int.reduceAdd, Int.reduceSub, Int.reduceMul, Int.reduceNeg, Nat.reduceEqDiff, e]
  rw [dv_i h1 h2 hp (by omega), obs, rm_i hd (by omega) (by omega) (by omega), obs, iI_sub]
  rfl
theorem rowR_stop {b v n : Int} (i j : Nat) (h0 : (rowR ρ x b v n i).1 = 0) : rowR ρ x b v n (i + j) = rowR ρ x b v n i := by
  induction j with
  | zero => rfl
  | succ j ih =>
    show rowR ρ x b v n (i + j + 1) = _
    simp only [rowR]
    rw [ih, if_pos h0]
theorem c_goRow (h : XC G O y ρ x X r bd ld) (hw : wfR ρ) (hx : wfS ρ x) {b v : Int} (h1 : 0 ≤ b) (h2 : b < rB ρ) (hv : 0 ≤ v) (hv2 : v < p3 (lft ρ x b)) : ∃ y', fy_B_goRow G y X (iI b) (iI v) (iI (lft ρ x b)) = some (iI (if (rowE ρ x b v).1 = 0 then -1 else turnN v (lft ρ x b) (lft ρ x b).toNat), y') ∧ yF O [2, 24, 104] 0 0 y y' ∧ vlY y' (rL ρ) (X + 15) (rowE ρ x b v).2 := by
  have h3 := lft_b hw hx h1 h2
  have hp := p3_le h3.2
  have hl := hw.2.2.2.1
  have hx1 := hx.1 b h1 h2
  obtain ⟨y1, e1, f1, v1⟩ := c_stOf (G := G) (x_th h.1) h.2.2.1 h.2.2.2 (by omega) (by omega) rfl
  have f1' : yF O [2, 24, 104] 0 0 y y1 := f1.m0 rfl
  have hlf : lft ρ x b = rR ρ - x (4 + b) := rfl
  unfold rowE
  generalize hn : lft ρ x b = n at *
  have hloop : ∃ q, lp (fy_B_goRow_b17 G X (iI b) (iI v) (iI n)) (iI 0, iI 0, y1) = some q ∧ ∃ y', Sum.elim id id q = (iI (if (rowR ρ x b v n n.toNat).1 = 0 then -1 else turnN v n n.toNat), y') ∧ yF O [2, 24, 104] 0 0 y y' ∧ vlY y' (rL ρ) (X + 15) (rowR ρ x b v n n.toNat).2 := by
    refine lp_inv (fun i q => q.1 = iI (turnN v n i) ∧ q.2.1 = iI i ∧ yF O [2, 24, 104] 0 0 y q.2.2 ∧ vlY q.2.2 (rL ρ) (X + 15) (rowR ρ x b v n i).2 ∧ (rowR ρ x b v n i).1 = 1) n.toNat ?_ ?_ ⟨rfl, rfl, f1', v1, rfl⟩
    · rintro i ⟨o, c, u⟩ hi ⟨g1, g2, g3, g4, g5⟩
      simp only at g1 g2 g3 g4 g5
      subst g1 g2
      have hu := h.fr g3 rfl
      obtain ⟨w1, w2, w3⟩ := rowR_wf (v := v) (n := n) hw hx h1 h2 i (by omega)
      have hrow := w2 g5
      have hd := dig_b v n i
      have es := c_steerOf (v := v) (n := n) (k := i) hv (by omega) (by omega) (by omega) (by omega)
      have h7 : 0 ≤ (rowR ρ x b v n i).2 (4 + b) + onI 1 := by rw [on1]; omega
      have h8 : (rowR ρ x b v n i).2 (4 + b) + onI 1 ≤ rR ρ := by rw [on1]; omega
      obtain ⟨u2, e2, f2, v2⟩ := c_stroke (fl := 0) hu.2.1 hw (x_th hu.1) g4 w1 (Or.inr rfl) h1 h2 hd.1 hd.2 (Or.inr rfl) (Or.inl rfl) h7 h8
      rw [on1, Int.add_zero] at e2 v2
      have hr := strV_r (tt := dig v n i) (k := 1) hw w1 h1 h2 (on := 1) (by omega) (by omega)
      have f2' : yF O [2, 24, 104] 0 0 u u2 := f2.m0 rfl
      have erm := rm_i (a := strV ρ (rowR ρ x b v n i).2 b (dig v n i) 1 1) (b := 2) hr.1 (by omega) (by omega) (by omega)
      have hab : absI (dig v n i) = if dig v n i = 0 then 0 else 1 := by
        unfold absI
        split <;> split <;> omega
      have eab := iabs_i (z := dig v n i) (by omega) (by omega)
      have hsuc : rowR ρ x b v n (i + 1) = (if strV ρ (rowR ρ x b v n i).2 b (dig v n i) 1 1 % 2 = 0 then 1 else 0, strS ρ (rowR ρ x b v n i).2 b (dig v n i) 1 1) := by
        show (if (rowR ρ x b v n i).1 = 0 then _ else _) = _
        rw [if_neg (by omega)]
      by_cases hz : strV ρ (rowR ρ x b v n i).2 b (dig v n i) 1 1 % 2 = 0
      · left
        rw [if_pos hz] at hsuc
        refine ⟨(iI (turnN v n (i + 1)), iI ((i : Int) + 1), u2), ?_, rfl, rfl, g3.t0 f2', by rw [hsuc]; exact v2, by rw [hsuc]⟩
        simp (disch := omega) only [fy_B_goRow_b17, iI_lit, iI_add, iI_sub, iI_mul, iI_neg, obs, if_true, if_false, Int.reduceEq, Int.reduceLE, Int.reduceLT, Int.reduceAdd, Int.reduceSub, Int.reduceMul, Int.reduceNeg, Nat.reduceEqDiff, iI_le, iI_lt, iI_eq, es, x_2 hu.1, x_0 hu.1, s_c (x_th hu.1), e2]
        rw [if_neg (by omega), erm, obs]
        simp (disch := omega) only [hz, iI_lit, iI_add, iI_sub, iI_mul, iI_neg, obs, if_true, if_false, Int.reduceEq, Int.reduceLE, Int.reduceLT, Int.reduceAdd, Int.reduceSub, Int.reduceMul, Int.reduceNeg, Nat.reduceEqDiff, iI_le, iI_lt, iI_eq, eab, hab, turnN]
      · right
        have hz1 : strV ρ (rowR ρ x b v n i).2 b (dig v n i) 1 1 % 2 = 1 := by omega
        rw [if_neg hz] at hsuc
        have hE : rowR ρ x b v n n.toNat = rowR ρ x b v n (i + 1) := by
          have := rowR_stop (ρ := ρ) (x := x) (b := b) (v := v) (n := n) (i + 1) (n.toNat - (i + 1)) (by rw [hsuc])
          rwa [show i + 1 + (n.toNat - (i + 1)) = n.toNat by omega] at this
        refine ⟨.inr (iI (-1), u2), ?_, u2, ?_, g3.t0 f2', by rw [hE, hsuc]; exact v2⟩
        · simp (disch := omega) only [fy_B_goRow_b17, iI_lit, iI_add, iI_sub, iI_mul, iI_neg, obs, if_true, if_false, Int.reduceEq, Int.reduceLE, Int.reduceLT, Int.reduceAdd, Int.reduceSub, Int.reduceMul, Int.reduceNeg, Nat.reduceEqDiff, iI_le, iI_lt, iI_eq, es, x_2 hu.1, x_0 hu.1, s_c (x_th hu.1), e2]
          rw [if_neg (by omega), erm, obs]
          simp (disch := omega) only [hz1, iI_lit, iI_add, iI_sub, iI_mul, iI_neg, obs, if_true, if_false, Int.reduceEq, Int.reduceLE, Int.reduceLT, Int.reduceAdd, Int.reduceSub, Int.reduceMul, Int.reduceNeg, Nat.reduceEqDiff, iI_le, iI_lt, iI_eq]
        · rw [hE, hsuc]
          rfl
    · rintro ⟨o, c, u⟩ ⟨g1, g2, g3, g4, g5⟩
      simp only at g1 g2 g3 g4 g5
      subst g1 g2
      refine ⟨.inl (iI (turnN v n n.toNat), u), ?_, u, ?_, g3, g4⟩
      · simp (disch := omega) only [fy_B_goRow_b17, iI_lit, iI_add, iI_sub, iI_mul, iI_neg, obs, if_true, if_false, Int.reduceEq, Int.reduceLE, Int.reduceLT, Int.reduceAdd, Int.reduceSub, Int.reduceMul, Int.reduceNeg, Nat.reduceEqDiff, iI_le, iI_lt, iI_eq]
        rw [if_pos (by omega)]
      · rw [g5]
        rfl
  obtain ⟨q, eq, y', e', f', v'⟩ := hloop
  refine ⟨y', ?_, f', v'⟩
  unfold fy_B_goRow
  rw [x_2 h.1, obs, x_1 h.1, obs, s_c (x_th h.1), obs, e1, obs]
  rw [show ((0, 0, y1) : Int32 × Int32 × yS) = (iI 0, iI 0, y1) from rfl, eq]
  cases q with
  | inl q => exact congrArg some e'
  | inr q => exact congrArg some e'
theorem turnN_sg {ρ : Rv} {x : Int → Int} {b v n : Int} {k : Nat} : (if (rowE ρ x b v).1 = 0 then -1 else turnN v n k) < 0 ↔ (rowE ρ x b v).1 = 0 := by
  have := turnN_b v n k
  by_cases h : (rowE ρ x b v).1 = 0
  · rw [if_pos h]; exact ⟨fun _ => h, fun _ => by omega⟩
  · rw [if_neg h]; exact ⟨fun z => by omega, fun z => absurd z h⟩
theorem c_p3 {n : Int} (h1 : 0 ≤ n) (h2 : n ≤ 6) : fy_B_power (iI 3) (iI n) = some (iI (p3 n)) := c_power (by omega) (by omega)
theorem c_landingsOf (h : XC G O y ρ x X r bd ld) (hw : wfR ρ) (hx : wfS ρ x) {b : Int} (h1 : 0 ≤ b) (h2 : b < rB ρ) : ∃ y', fy_B_landingsOf G y X (iI b) = some (iI (landS ρ x b), y') ∧ yF O [2, 24, 104] 0 0 y y' := by
  have h3 := lft_b hw hx h1 h2
  have hp := p3_le h3.2
  have hp0 := p3_pos (lft ρ x b)
  have hb := hw.2.2.1
  have hc := hw.1
  have e0 := c_left9 h.1 h.2.1 h.2.2.1 h.2.2.2 h1 (show b < 4 by omega)
  have ep := c_p3 h3.1 h3.2
  have : ∃ q, lp (fy_B_landingsOf_b11 G X (iI b) (iI (lft ρ x b))) (iI 0, iI 0, y) = some q ∧ (q.1 = iI (landS ρ x b) ∧ yF O [2, 24, 104] 0 0 y q.2) := by
    refine lp_inv (fun i q => q.1 = iI (landN ρ x b i) ∧ q.2.1 = iI i ∧ yF O [2, 24, 104] 0 0 y q.2.2) (p3 (lft ρ x b)).toNat ?_ ?_ ⟨rfl, rfl, yF.refl⟩
    · rintro i ⟨a, c, u⟩ hi ⟨g1, g2, g3⟩
      simp only at g1 g2 g3
      subst g1 g2
      have hu := h.fr g3 rfl
      obtain ⟨u2, e1, f1, v1⟩ := c_goRow hu hw hx (b := b) (v := i) h1 h2 (by omega) (by omega)
      have hu2 := hu.fr f1 rfl
      have hb1 := landN_b hw hx h1 h2 i
      have hE := rowE_wf (v := i) hw hx h1 h2
      have hcol := hE.1.1 b h1 h2
      have ht := turnN_b i (lft ρ x b) (lft ρ x b).toNat
      left
      refine ⟨(iI (landN ρ x b (i + 1)), iI ((i : Int) + 1), u2), ?_, rfl, rfl, g3.t0 f1⟩
      have ac := s_a0 (x_th hu2.1) v1 h1 (show b < 4 by omega)
      simp (disch := omega) only [fy_B_landingsOf_b11, iI_lit, iI_add, iI_sub, iI_mul, iI_neg, obs, if_true, if_false, Int.reduceEq, Int.reduceLE, Int.reduceLT, Int.reduceAdd, Int.reduceSub, Int.reduceMul, Int.reduceNeg, Nat.reduceEqDiff, iI_le, iI_lt, iI_eq, ep, x_c hu.1, e1, landN]
      rw [if_neg (by omega)]
      rcases hE.2 with h0 | h0
      · simp (disch := omega) only [h0, iI_lit, iI_add, iI_sub, iI_mul, iI_neg, obs, if_true, if_false, Int.reduceEq, Int.reduceLE, Int.reduceLT, Int.reduceAdd, Int.reduceSub, Int.reduceMul, Int.reduceNeg, Nat.reduceEqDiff, iI_le, iI_lt, iI_eq]
      · have ho := orb_i (l := (rowE ρ x b i).2 b) (by omega) (by omega) hb1.1 hb1.2
        simp (disch := omega) only [h0, iI_lit, iI_add, iI_sub, iI_mul, iI_neg, obs, if_true, if_false, Int.reduceEq, Int.reduceLE, Int.reduceLT, Int.reduceAdd, Int.reduceSub, Int.reduceMul, Int.reduceNeg, Nat.reduceEqDiff, iI_le, iI_lt, iI_eq, show ¬ (1 : Int) = 0 by omega]
        rw [if_neg (by omega)]
        simp (disch := omega) only [x_2 hu2.1, s_0 (x_th hu2.1), ac, iI_lit, iI_add, iI_sub, iI_mul, iI_neg, obs, if_true, if_false, Int.reduceEq, Int.reduceLE, Int.reduceLT, Int.reduceAdd, Int.reduceSub, Int.reduceMul, Int.reduceNeg, Nat.reduceEqDiff, ho.1]
    · rintro ⟨a, c, u⟩ ⟨g1, g2, g3⟩
      simp only at g1 g2 g3
      subst g1 g2
      refine ⟨(iI (landS ρ x b), u), ?_, rfl, g3⟩
      simp (disch := omega) only [fy_B_landingsOf_b11, iI_lit, iI_add, iI_sub, iI_mul, iI_neg, obs, if_true, if_false, Int.reduceEq, Int.reduceLE, Int.reduceLT, Int.reduceAdd, Int.reduceSub, Int.reduceMul, Int.reduceNeg, Nat.reduceEqDiff, iI_le, iI_lt, iI_eq, ep]
      rw [if_pos (by omega)]
      rfl
  obtain ⟨q, e, g1, g2⟩ := this
  refine ⟨q.2, ?_, g2⟩
  unfold fy_B_landingsOf
  rw [x_c h.1, obs, e0, obs, show ((0, 0, y) : Int32 × Int32 × yS) = (iI 0, iI 0, y) from rfl, e, obs, g1]
theorem c_landings (h : XC G O y ρ x X r bd ld) (hw : wfR ρ) (hx : wfS ρ x) {b : Int} (h1 : -2147483648 ≤ b) (h2 : b < 2147483648) : ∃ y', fy_B_landings G y X (iI b) = some (iI (if 0 ≤ b ∧ b < rB ρ then landS ρ x b else -1), y') ∧ yF O [2, 24, 104] 0 0 y y' := by
  unfold fy_B_landings
  rw [x_c h.1, obs, c_isBoard h.1 h.2.1 hw h1 h2, obs]
  by_cases hb : 0 ≤ b ∧ b < rB ρ
  · obtain ⟨y1, e1, f1⟩ := c_landingsOf h hw hx hb.1 hb.2
    refine ⟨y1, ?_, f1⟩
    simp only [if_pos hb, iI_lit, iI_add, iI_sub, iI_mul, iI_neg, obs, if_true, if_false, Int.reduceEq, Int.reduceLE, Int.reduceLT, Int.reduceAdd, Int.reduceSub, Int.reduceMul, Int.reduceNeg, Nat.reduceEqDiff, show ¬ iI 1 = iI 0 by decide, x_c h.1, e1]
  · exact ⟨y, by simp only [if_neg hb, iI_lit, iI_add, iI_sub, iI_mul, iI_neg, obs, if_true, if_false, Int.reduceEq, Int.reduceLE, Int.reduceLT, Int.reduceAdd, Int.reduceSub, Int.reduceMul, Int.reduceNeg, Nat.reduceEqDiff], yF.refl⟩
theorem c_rows (h : XC G O y ρ x X r bd ld) (hw : wfR ρ) (hx : wfS ρ x) {b : Int} (h1 : -2147483648 ≤ b) (h2 : b < 2147483648) : ∃ y', fy_B_rows G y X (iI b) = some (iI (if 0 ≤ b ∧ b < rB ρ then rowsN ρ x b (p3 (lft ρ x b)).toNat else -1), y') ∧ yF O [2, 24, 104] 0 0 y y' := by
  unfold fy_B_rows
  rw [x_c h.1, obs, c_isBoard h.1 h.2.1 hw h1 h2, obs]
  by_cases hb : 0 ≤ b ∧ b < rB ρ
  rotate_left
  · exact ⟨y, by simp only [if_neg hb, iI_lit, iI_add, iI_sub, iI_mul, iI_neg, obs, if_true, if_false, Int.reduceEq, Int.reduceLE, Int.reduceLT, Int.reduceAdd, Int.reduceSub, Int.reduceMul, Int.reduceNeg, Nat.reduceEqDiff], yF.refl⟩
  obtain ⟨h1, h2⟩ := hb
  have h3 := lft_b hw hx h1 h2
  have hp := p3_le h3.2
  have hp0 := p3_pos (lft ρ x b)
  have hb := hw.2.2.1
  have e0 := c_left9 h.1 h.2.1 h.2.2.1 h.2.2.2 h1 (show b < 4 by omega)
  have ep := c_p3 h3.1 h3.2
  have : ∃ q, lp (fy_B_rows_b21 G X (iI b) (iI (lft ρ x b))) (iI 0, iI 0, y) = some q ∧ (q.1 = iI (rowsN ρ x b (p3 (lft ρ x b)).toNat) ∧ yF O [2, 24, 104] 0 0 y q.2) := by
    refine lp_inv (fun i q => q.1 = iI (rowsN ρ x b i) ∧ q.2.1 = iI i ∧ yF O [2, 24, 104] 0 0 y q.2.2) (p3 (lft ρ x b)).toNat ?_ ?_ ⟨rfl, rfl, yF.refl⟩
    · rintro i ⟨a, c, u⟩ hi ⟨g1, g2, g3⟩
      simp only at g1 g2 g3
      subst g1 g2
      have hu := h.fr g3 rfl
      obtain ⟨u2, e1, f1, -⟩ := c_goRow hu hw hx (b := b) (v := i) h1 h2 (by omega) (by omega)
      have hE := rowE_wf (v := i) hw hx h1 h2
      have ht := turnN_b i (lft ρ x b) (lft ρ x b).toNat
      left
      refine ⟨(iI (rowsN ρ x b (i + 1)), iI ((i : Int) + 1), u2), ?_, rfl, rfl, g3.t0 f1⟩
      simp (disch := omega) only [fy_B_rows_b21, iI_lit, iI_add, iI_sub, iI_mul, iI_neg, obs, if_true, if_false, Int.reduceEq, Int.reduceLE, Int.reduceLT, Int.reduceAdd, Int.reduceSub, Int.reduceMul, Int.reduceNeg, Nat.reduceEqDiff, iI_le, iI_lt, iI_eq, ep, x_c hu.1, e1, rowsN]
      rw [if_neg (by omega)]
      rcases hE.2 with h0 | h0
      · simp (disch := omega) only [h0, iI_lit, iI_add, iI_sub, iI_mul, iI_neg, obs, if_true, if_false, Int.reduceEq, Int.reduceLE, Int.reduceLT, Int.reduceAdd, Int.reduceSub, Int.reduceMul, Int.reduceNeg, Nat.reduceEqDiff, iI_le, iI_lt, iI_eq]
      · simp (disch := omega) only [h0, iI_lit, iI_add, iI_sub, iI_mul, iI_neg, obs, if_true, if_false, Int.reduceEq, Int.reduceLE, Int.reduceLT, Int.reduceAdd, Int.reduceSub, Int.reduceMul, Int.reduceNeg, Nat.reduceEqDiff, iI_le, iI_lt, iI_eq, show ¬ (1 : Int) = 0 by omega]
        rw [if_neg (by omega)]
    · rintro ⟨a, c, u⟩ ⟨g1, g2, g3⟩
      simp only at g1 g2 g3
      subst g1 g2
      refine ⟨(iI (rowsN ρ x b (p3 (lft ρ x b)).toNat), u), ?_, rfl, g3⟩
      simp (disch := omega) only [fy_B_rows_b21, iI_lit, iI_add, iI_sub, iI_mul, iI_neg, obs, if_true, if_false, Int.reduceEq, Int.reduceLE, Int.reduceLT, Int.reduceAdd, Int.reduceSub, Int.reduceMul, Int.reduceNeg, Nat.reduceEqDiff, iI_le, iI_lt, iI_eq, ep]
      rw [if_pos (by omega)]
  obtain ⟨q, e, g1, g2⟩ := this
  refine ⟨q.2, ?_, g2⟩
  simp only [if_pos (And.intro h1 h2), iI_lit, iI_add, iI_sub, iI_mul, iI_neg, obs, if_true, if_false, Int.reduceEq, Int.reduceLE, Int.reduceLT, Int.reduceAdd, Int.reduceSub, Int.reduceMul, Int.reduceNeg, Nat.reduceEqDiff, show ¬ iI 1 = iI 0 by decide, x_c h.1, e0]
  rw [e, obs, g1]
theorem c_drift (h : XC G O y ρ x X r bd ld) (hw : wfR ρ) (hx : wfS ρ x) {b : Int} (h1 : -2147483648 ≤ b) (h2 : b < 2147483648) : ∃ y', fy_B_drift G y X (iI b) = some (iI (if 0 ≤ b ∧ b < rB ρ then (if (rowE ρ x b ((p3 (lft ρ x b) - 1) / 2)).1 = 0 then -1 else (rowE ρ x b ((p3 (lft ρ x b) - 1) / 2)).2 b) else -1), y') ∧ yF O [2, 24, 104] 0 0 y y' := by
  unfold fy_B_drift
  rw [x_c h.1, obs, c_isBoard h.1 h.2.1 hw h1 h2, obs]
  by_cases hb : 0 ≤ b ∧ b < rB ρ
  rotate_left
  · exact ⟨y, by simp only [if_neg hb, iI_lit, iI_add, iI_sub, iI_mul, iI_neg, obs, if_true, if_false, Int.reduceEq, Int.reduceLE, Int.reduceLT, Int.reduceAdd, Int.reduceSub, Int.reduceMul, Int.reduceNeg, Nat.reduceEqDiff], yF.refl⟩
  obtain ⟨h1, h2⟩ := hb
  have h3 := lft_b hw hx h1 h2
  have hp := p3_le h3.2
  have hp0 := p3_pos (lft ρ x b)
  have hb := hw.2.2.1
  have e0 := c_left9 h.1 h.2.1 h.2.2.1 h.2.2.2 h1 (show b < 4 by omega)
  have ep := c_p3 h3.1 h3.2
  have es : fy_B_straightOn (iI (lft ρ x b)) = some (iI ((p3 (lft ρ x b) - 1) / 2)) := by
    simp only [fy_B_straightOn, iI_lit, iI_add, iI_sub, iI_mul, iI_neg, obs, if_true, if_false, Int.reduceEq, Int.reduceLE, Int.reduceLT, Int.reduceAdd, Int.reduceSub, Int.reduceMul, Int.reduceNeg, Nat.reduceEqDiff, ep]
    rw [dv_i (by omega) (by omega) (by omega) (by omega)]
    rfl
  obtain ⟨y2, e1, f1, v1⟩ := c_goRow h hw hx (b := b) (v := (p3 (lft ρ x b) - 1) / 2) h1 h2 (by omega) (by omega)
  have hu := h.fr f1 rfl
  have hE := rowE_wf (v := (p3 (lft ρ x b) - 1) / 2) hw hx h1 h2
  have ht := turnN_b ((p3 (lft ρ x b) - 1) / 2) (lft ρ x b) (lft ρ x b).toNat
  have ac := s_a0 (x_th hu.1) v1 h1 (show b < 4 by omega)
  refine ⟨y2, ?_, f1⟩
  simp only [if_pos (And.intro h1 h2), iI_lit, iI_add, iI_sub, iI_mul, iI_neg, obs, if_true, if_false, Int.reduceEq, Int.reduceLE, Int.reduceLT, Int.reduceAdd, Int.reduceSub, Int.reduceMul, Int.reduceNeg, Nat.reduceEqDiff, show ¬ iI 1 = iI 0 by decide, x_c h.1, e0, es, e1]
  rcases hE.2 with h0 | h0
  · simp (disch := omega) only [h0, iI_lit, iI_add, iI_sub, iI_mul, iI_neg, obs, if_true, if_false, Int.reduceEq, Int.reduceLE, Int.reduceLT, Int.reduceAdd, Int.reduceSub, Int.reduceMul, Int.reduceNeg, Nat.reduceEqDiff, iI_le, iI_lt, iI_eq]
  · simp (disch := omega) only [h0, iI_lit, iI_add, iI_sub, iI_mul, iI_neg, obs, if_true, if_false, Int.reduceEq, Int.reduceLE, Int.reduceLT, Int.reduceAdd, Int.reduceSub, Int.reduceMul, Int.reduceNeg, Nat.reduceEqDiff, iI_le, iI_lt, iI_eq, show ¬ (1 : Int) = 0 by omega]
    rw [if_pos (by omega)]
    simp (disch := omega) only [x_2 hu.1, s_0 (x_th hu.1), ac, iI_lit, iI_add, iI_sub, iI_mul, iI_neg, obs, if_true, if_false, Int.reduceEq, Int.reduceLE, Int.reduceLT, Int.reduceAdd, Int.reduceSub, Int.reduceMul, Int.reduceNeg, Nat.reduceEqDiff]
end D5

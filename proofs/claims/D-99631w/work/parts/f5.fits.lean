/-! LAYER 3: fits, sure, ask: both sides -/
set_option maxRecDepth 100000
def lFit : List Nat := [2, 24, 104, 19, 20, 21, 227]
section F5
variable {G : ai_G} {O : Nat → Nat} {y : yS} {X r : Nat} {bd ld : Nat → Nat} {μ : Mu} {K : Int → Nat} {sg : Nat → Nat} {s : mS}
theorem cnt_msf (hw : wfM μ) (k : Int) (hB : ¬ rB (uR μ) = 0) : sumN (fun v => fitF μ k (fx0 (uR μ)) (dig v (rR (uR μ)))) (p3 (rR (uR μ))).toNat = cntV μ k := by
  have hr := hw.1.2.1
  have := msf (rR (uR μ)).toNat _ (fitF_ext hw (k := k) (x := fx0 (uR μ)))
  rw [show (((rR (uR μ)).toNat : Nat) : Int) = rR (uR μ) by omega] at this
  unfold cntV
  rw [if_neg hB, ← this]
theorem tal_msf (hw : wfM μ) (k : Int) (hB : ¬ rB (uR μ) = 0) {i e : Int} (h1 : 0 ≤ i) (h2 : i < rR (uR μ)) : sumN (fun v => if dig v (rR (uR μ)) i = e then fitF μ k (fx0 (uR μ)) (dig v (rR (uR μ))) else 0) (p3 (rR (uR μ))).toNat = talV μ k i e := by
  have hr := hw.1.2.1
  have := msf (rR (uR μ)).toNat _ (fitT_ext hw (k := k) (x := fx0 (uR μ)) (e := e) h1 h2)
  rw [show (((rR (uR μ)).toNat : Nat) : Int) = rR (uR μ) by omega] at this
  unfold talV
  rw [if_neg hB, ← this]
theorem c_layFits (h : XQ G O y μ X r bd ld K sg) (hw : wfM μ) {k : Int} (h1 : -2147483648 ≤ k) (h2 : k < 2147483648) : ∃ y', fy_B_layFits G y X (iI k) = some y' ∧ yF O lFit 729 2916 y y' ∧ yf y' X 27 = iI (cntV μ k) ∧ talY (rR (uR μ)) y' X (talV μ k) := by
  have hr := hw.1.2.1
  have hB0 := hw.1.2.2.1
  have hc := h.xc
  have hp0 := p3_pos (rR (uR μ))
  have hp := p3_le (z := rR (uR μ)) (by omega)
  have f0 : yF O lFit 0 0 y (sF y X 27 (iI 0)) := yF.refl.sf (by rw [x_lb h.1]; rfl)
  have l1 : ∃ q, lp (fy_B_layFits_b7 G X (iI k)) (iI 0, sF y X 27 (iI 0)) = some q ∧ (yF O lFit 0 0 y q ∧ yf q X 27 = iI 0 ∧ ∀ z : Int, 0 ≤ z → z < 18 → ya q (X + 37) z.toNat = iI 0) := by
    refine lp_inv (fun i q => q.1 = iI i ∧ yF O lFit 0 0 y q.2 ∧ yf q.2 X 27 = iI 0 ∧ ∀ z : Int, 0 ≤ z → z < (i : Int) → ya q.2 (X + 37) z.toNat = iI 0) 18 ?_ ?_ ⟨rfl, f0, by rw [sF_get, if_pos ⟨rfl, rfl⟩], fun z z1 z2 => by omega⟩
    · rintro i ⟨j, u⟩ hi ⟨g1, g2, g3, g4⟩
      simp only at g1 g2 g3 g4
      subst g1
      have hu := hc.fr g2 rfl
      left
      refine ⟨(iI ((i : Int) + 1), yw u (X + 37) (i : Int).toNat (iI 0)), ?_, rfl, g2.w (by rw [x_o37 h.1]; rfl), g3, fun z z1 z2 => ?_⟩
      · simp (disch := omega) only [fy_B_layFits_b7, x_26 hu.1, aL_n (x_t37 hu.1), iI_lit, iI_add, iI_sub, iI_mul, iI_neg, obs, if_true, if_false, Int.reduceEq, Int.reduceLE, Int.reduceLT, Int.reduceAdd, Int.reduceSub, Int.reduceMul, Int.reduceNeg, Nat.reduceEqDiff, iI_le, iI_lt, iI_eq, wA_n 18 (x_t37 hu.1)]
        rw [if_neg (by omega)]
      · rw [yw_get]
        split
        · rfl
        · exact g4 z z1 (by omega)
    · rintro ⟨j, u⟩ ⟨g1, g2, g3, g4⟩
      simp only at g1 g2 g3 g4
      subst g1
      have hu := hc.fr g2 rfl
      refine ⟨u, ?_, g2, g3, g4⟩
      simp (disch := omega) only [fy_B_layFits_b7, x_26 hu.1, aL_n (x_t37 hu.1), iI_lit, iI_add, iI_sub, iI_mul, iI_neg, obs, if_true, if_false, Int.reduceEq, Int.reduceLE, Int.reduceLT, Int.reduceAdd, Int.reduceSub, Int.reduceMul, Int.reduceNeg, Nat.reduceEqDiff, iI_le, iI_lt, iI_eq]
      rw [if_pos (by omega)]
  obtain ⟨y4, e4, f4, n4, a4⟩ := l1
  have h4 := hc.fr f4 rfl
  have ep := c_p3 (n := rR (uR μ)) (by omega) (by omega)
  have hz : talY (rR (uR μ)) y4 X (fun _ _ => 0) := fun i e i1 i2 e1 e2 => a4 (3 * i + e + 1) (by omega) (by omega)
  have l2 : ∃ q, lp (fy_B_layFits_b39 G X (iI k) (iI (rR (uR μ)))) (iI 0, y4) = some q ∧ (yF O lFit 729 2916 y q ∧ yf q X 27 = iI (cntV μ k) ∧ talY (rR (uR μ)) q X (talV μ k)) := by
    by_cases hB : rB (uR μ) = 0
    · refine ⟨y4, lp_out ?_, f4.mono rfl (by omega) (by omega), by rw [n4]; unfold cntV; rw [if_pos hB], fun i e i1 i2 e1 e2 => by rw [hz i e i1 i2 e1 e2]; unfold talV; rw [if_pos hB]⟩
      simp (disch := omega) only [fy_B_layFits_b39, x_c h4.1, c_boards h4.1 h4.2.1, iI_lit, iI_add, iI_sub, iI_mul, iI_neg, obs, if_true, if_false, Int.reduceEq, Int.reduceLE, Int.reduceLT, Int.reduceAdd, Int.reduceSub, Int.reduceMul, Int.reduceNeg, Nat.reduceEqDiff, iI_le, iI_lt, iI_eq]
      rw [if_pos (by omega)]
    · refine lp_inv (fun i q => q.1 = iI i ∧ yF O lFit i (4 * i) y q.2 ∧ yf q.2 X 27 = iI (sumN (fun v => fitF μ k (fx0 (uR μ)) (dig v (rR (uR μ)))) i) ∧ talY (rR (uR μ)) q.2 X (fun j e => sumN (fun v => if dig v (rR (uR μ)) j = e then fitF μ k (fx0 (uR μ)) (dig v (rR (uR μ))) else 0) i)) (p3 (rR (uR μ))).toNat ?_ ?_ ⟨rfl, f4, n4, hz⟩
      · rintro i ⟨j, u⟩ hi ⟨g1, g2, g3, g4⟩
        simp only at g1 g2 g3 g4
        subst g1
        have hu := hc.fr g2 rfl
        obtain ⟨u1, dz, e1, f1, b1, hdz, -⟩ := c_begin hu.2.1 hw.1 (x_th hu.1) (Or.inr rfl)
        have f1 : yF O [24, 104] 0 0 u u1 := f1
        have hu1 := hu.fr f1 rfl
        have hl7 := hw.1.2.2.2.1
        obtain ⟨u2, e2, f2, a2⟩ := c_fitGo (n := rR (uR μ)) (v := i) (xb := begX (uR μ) dz) hu1 hw.1 (by omega) (b1.mono (by omega)) (begX_wf hw.1 hdz) (by unfold begX; rw [if_neg (by omega), if_pos (by omega)]) (by omega) (by omega) rfl (iI k)
        have hu2 := hu1.fr f2 rfl
        have f02 : yF O lFit i (4 * i) y u2 := by
          have a := g2.tr (f1.m0 (L' := lFit) rfl) (L' := lFit) rfl rfl (Nat.le_refl _) (Nat.le_refl _)
          exact a.tr (f2.m0 (L' := lFit) rfl) (L' := lFit) rfl rfl (Nat.le_refl _) (Nat.le_refl _)
        have gu2 := h.2.2.2.2.2.2.2.2.2.fr f02 rfl
        obtain ⟨u3, e3, f3⟩ := c_doesFit (G := G) hu2.1 gu2 hw (v := i) (k := k) (by omega) (by omega) a2 (fun z z1 z2 => by
          obtain ⟨w1, -⟩ := ft_wf (t := dig i (rR (uR μ))) hw.1 (begX_wf hw.1 hdz) (show 0 < rB (uR μ) by omega) (by unfold begX; rw [if_neg (by omega), if_pos (by omega)]) (z.toNat + 1) (by omega)
          have q := w1.1 0 (by omega) (show 0 < rB (uR μ) by omega)
          have hC := hw.1.1
          rw [show (8 : Int) + 0 = 8 from rfl] at q
          exact ⟨⟨q.1.1, by omega⟩, q.2.2.1.1, by omega⟩) h1 h2
        have eF : fitN μ k (fun i_1 => ftR (uR μ) (begX (uR μ) dz) (dig i (rR (uR μ))) (i_1.toNat + 1) 0) (fun i_1 => ftR (uR μ) (begX (uR μ) dz) (dig i (rR (uR μ))) (i_1.toNat + 1) 8) (uS μ 75).toNat = fitF μ k (fx0 (uR μ)) (dig i (rR (uR μ))) := fitF_agr hw (begX_agr hw.1 (by omega) dz) _
        rw [eF] at e3
        have hu3 := hu2.fr f3 rfl
        have f03 : yF O lFit (i + 1) (4 * (i + 1)) y u3 := f02.tr f3 rfl rfl (by omega) (by omega)
        have e01 : fitF μ k (fx0 (uR μ)) (dig i (rR (uR μ))) = 0 ∨ fitF μ k (fx0 (uR μ)) (dig i (rR (uR μ))) = 1 := fitN_01 _ _ _ _ _
        have n3 : yf u3 X 27 = iI (sumN (fun v => fitF μ k (fx0 (uR μ)) (dig v (rR (uR μ)))) i) := by
          rw [x_f0 hu2.1 f3 27 rfl, x_f0 hu1.1 f2 27 rfl, x_f0 hu.1 f1 27 rfl]
          exact g3
        have T3 : talY (rR (uR μ)) u3 X (fun j e => sumN (fun v => if dig v (rR (uR μ)) j = e then fitF μ k (fx0 (uR μ)) (dig v (rR (uR μ))) else 0) i) := fun j e j1 j2 j3 j4 => by
          rw [x_arr hu2.1 f3 37 (by omega) (by omega) rfl, x_arr hu1.1 f2 37 (by omega) (by omega) rfl, x_arr hu.1 f1 37 (by omega) (by omega) rfl]
          exact g4 j e j1 j2 j3 j4
        left
        have hbody : fy_B_layFits_b39 G X (iI k) (iI (rR (uR μ))) (iI i, u) = if fitF μ k (fx0 (uR μ)) (dig i (rR (uR μ))) = 0 then some (.inl (iI ((i : Int) + 1), u3)) else (lp (fy_B_layFits_b171 G X (iI k) (iI (rR (uR μ))) (iI i)) (iI 0, sF u3 X 27 (iI (sumN (fun v => fitF μ k (fx0 (uR μ)) (dig v (rR (uR μ)))) i + 1)))).bind fun q171 => some (.inl (iI ((i : Int) + 1), q171)) := by
          have eg : gI 0 27 u3 X = some (iI (sumN (fun v => fitF μ k (fx0 (uR μ)) (dig v (rR (uR μ)))) i)) := by rw [gI_ok hu3.1.1.1, n3]
          simp (disch := omega) only [fy_B_layFits_b39, x_c hu.1, c_boards hu.1 hu.2.1, iI_lit, iI_add, iI_sub, iI_mul, iI_neg, obs, if_true, if_false, Int.reduceEq, Int.reduceLE, Int.reduceLT, Int.reduceAdd, Int.reduceSub, Int.reduceMul, Int.reduceNeg, Nat.reduceEqDiff, iI_le, iI_lt, iI_eq, ep, x_2 hu.1, x_0 hu.1, s_c (x_th hu.1), e1]
          rw [if_neg (by omega), if_neg (by omega), e2, obs, x_c hu2.1, obs, e3, obs]
          rcases e01 with z | z
          · simp only [z, iI_lit, iI_add, iI_sub, iI_mul, iI_neg, obs, if_true, if_false, Int.reduceEq, Int.reduceLE, Int.reduceLT, Int.reduceAdd, Int.reduceSub, Int.reduceMul, Int.reduceNeg, Nat.reduceEqDiff]
          · simp only [z, iI_lit, iI_add, iI_sub, iI_mul, iI_neg, obs, if_true, if_false, Int.reduceEq, Int.reduceLE, Int.reduceLT, Int.reduceAdd, Int.reduceSub, Int.reduceMul, Int.reduceNeg, Nat.reduceEqDiff, show ¬ iI 1 = iI 0 by decide, eg, x_wI hu3.1 (y' := u3) rfl, show ¬ (1 : Int) = 0 by omega]
        rw [hbody]
        rcases e01 with z | z
        · rw [if_pos z]
          refine ⟨_, rfl, rfl, f03, ?_, fun j e j1 j2 j3 j4 => ?_⟩
          · rw [n3]
            simp only [sumN, z, Int.add_zero]
          · rw [T3 j e j1 j2 j3 j4]
            simp only [sumN, z]
            congr 1
            split <;> omega
        · rw [if_neg (by omega)]
          have f4' : yF O lFit 0 0 u3 (sF u3 X 27 (iI (sumN (fun v => fitF μ k (fx0 (uR μ)) (dig v (rR (uR μ)))) i + 1))) := yF.refl.sf (by rw [x_lb h.1]; rfl)
          have S4 := hu3.1.fr f4' rfl
          obtain ⟨u5, e5, f5, T5⟩ := c_tally (G := G) (v := i) (T := fun j e => sumN (fun v => if dig v (rR (uR μ)) j = e then fitF μ k (fx0 (uR μ)) (dig v (rR (uR μ))) else 0) i) S4 (n := rR (uR μ)) (by omega) (by omega) (by omega) T3 (iI k)
          rw [e5, obs]
          refine ⟨_, rfl, rfl, ?_, ?_, fun j e j1 j2 j3 j4 => ?_⟩
          · exact (f03.tr f4' (L' := lFit) rfl rfl (Nat.le_refl _) (Nat.le_refl _)).tr f5 rfl rfl (Nat.le_refl _) (Nat.le_refl _)
          · rw [x_f0 S4 f5 27 rfl, sF_get, if_pos ⟨rfl, rfl⟩]
            simp only [sumN, z]
          · rw [T5 j e j1 j2 j3 j4]
            simp only [sumN, z]
      · rintro ⟨j, u⟩ ⟨g1, g2, g3, g4⟩
        simp only at g1 g2 g3 g4
        subst g1
        have hu := hc.fr g2 rfl
        refine ⟨u, ?_, g2.mono rfl (by omega) (by omega), by rw [g3, cnt_msf hw k hB], fun j e j1 j2 j3 j4 => ?_⟩
        · simp (disch := omega) only [fy_B_layFits_b39, x_c hu.1, c_boards hu.1 hu.2.1, iI_lit, iI_add, iI_sub, iI_mul, iI_neg, obs, if_true, if_false, Int.reduceEq, Int.reduceLE, Int.reduceLT, Int.reduceAdd, Int.reduceSub, Int.reduceMul, Int.reduceNeg, Nat.reduceEqDiff, ep, iI_le, iI_lt, iI_eq]
          rw [if_neg (by omega), if_pos (by omega)]
        · rw [g4 j e j1 j2 j3 j4, ← tal_msf hw k hB j1 j2]
  obtain ⟨q, eq, q1, q2, q3⟩ := l2
  refine ⟨q, ?_, q1, q2, q3⟩
  unfold fy_B_layFits
  rw [show (0 : Int32) = iI 0 from rfl, x_wI h.1 rfl, obs, e4, obs, x_0 h4.1, obs, r_row h4.2.1, obs, eq]
  rfl
theorem allR_plus : ∀ (n : Nat) (Φ Ψ : (Int → Int) → Int), allR n (fun t => Φ t + Ψ t) = allR n Φ + allR n Ψ := by
  intro n
  induction n with
  | zero => intro Φ Ψ; rfl
  | succ n ih =>
    intro Φ Ψ
    simp only [allR]
    rw [ih, ih, ih]
    omega
theorem allR_b : ∀ (n : Nat) (Φ : (Int → Int) → Int), (∀ t, 0 ≤ Φ t ∧ Φ t ≤ 1) → 0 ≤ allR n Φ ∧ allR n Φ ≤ p3 n := by
  intro n
  induction n with
  | zero => intro Φ h; exact h _
  | succ n ih =>
    intro Φ h
    have a := ih _ (fun t => h (consI (-1) t))
    have b := ih _ (fun t => h (consI 0 t))
    have c := ih _ (fun t => h (consI 1 t))
    simp only [allR]
    rw [show ((n + 1 : Nat) : Int) = (n : Int) + 1 by omega, p3_succ (by omega)]
    omega
/-- over rows whose steers are steers -/
theorem allR_3 : ∀ (n : Nat) (Φ Ψ : (Int → Int) → Int), extR n Φ → extR n Ψ → (∀ t : Int → Int, (∀ i, -1 ≤ t i ∧ t i ≤ 1) → Φ t = Ψ t) → allR n Φ = allR n Ψ := by
  intro n
  induction n with
  | zero => intro Φ Ψ _ _ h; exact h _ (fun i => by omega)
  | succ n ih =>
    intro Φ Ψ h1 h2 h
    have k : ∀ e : Int, -1 ≤ e → e ≤ 1 → allR n (fun t => Φ (consI e t)) = allR n (fun t => Ψ (consI e t)) := fun e e1 e2 => ih _ _ (h1.cons e) (h2.cons e) (fun t ht => h _ (fun i => by
      unfold consI
      split
      · exact ⟨e1, e2⟩
      · exact ht _))
    simp only [allR]
    rw [k (-1) (by omega) (by omega), k 0 (by omega) (by omega), k 1 (by omega) (by omega)]
theorem fit_01 (μ : Mu) (k : Int) (x t : Int → Int) : 0 ≤ fitF μ k x t ∧ fitF μ k x t ≤ 1 := by
  have : fitF μ k x t = 0 ∨ fitF μ k x t = 1 := fitN_01 _ _ _ _ _
  omega
theorem cnt_b (hw : wfM μ) (k : Int) : 0 ≤ cntV μ k ∧ cntV μ k ≤ 729 := by
  have hr := hw.1.2.1
  unfold cntV
  split
  · omega
  · have := allR_b (rR (uR μ)).toNat _ (fit_01 μ k (fx0 (uR μ)))
    have h2 := p3_le (z := (((rR (uR μ)).toNat : Nat) : Int)) (by omega)
    omega
theorem tal_b (hw : wfM μ) (k i e : Int) : 0 ≤ talV μ k i e ∧ talV μ k i e ≤ 729 := by
  have hr := hw.1.2.1
  unfold talV
  split
  · omega
  · have := allR_b (rR (uR μ)).toNat (fun t => if t i = e then fitF μ k (fx0 (uR μ)) t else 0) (fun t => by
      have := fit_01 μ k (fx0 (uR μ)) t
      split <;> omega)
    have h2 := p3_le (z := (((rR (uR μ)).toNat : Nat) : Int)) (by omega)
    omega
theorem tal_sum (hw : wfM μ) (k : Int) {i : Int} (h1 : 0 ≤ i) (h2 : i < rR (uR μ)) : talV μ k i (-1) + talV μ k i 0 + talV μ k i 1 = cntV μ k := by
  unfold talV cntV
  split
  · rfl
  · rw [← allR_plus, ← allR_plus]
    refine allR_3 _ _ _ ?_ (fitF_ext hw) (fun t ht => ?_)
    · intro t t' htt
      have a := fitT_ext hw (k := k) (x := fx0 (uR μ)) (e := -1) h1 h2 t t' htt
      have b := fitT_ext hw (k := k) (x := fx0 (uR μ)) (e := 0) h1 h2 t t' htt
      have c := fitT_ext hw (k := k) (x := fx0 (uR μ)) (e := 1) h1 h2 t t' htt
      simp only at a b c ⊢
      rw [a, b, c]
    · have := ht i
      by_cases a : t i = -1
      · rw [if_pos a, if_neg (by omega), if_neg (by omega)]; omega
      · by_cases b : t i = 0
        · rw [if_neg a, if_pos b, if_neg (by omega)]; omega
        · rw [if_neg a, if_neg b, if_pos (by omega)]; omega
end F5

/-! LAYER 3: rows that fit: the component -/
set_option maxRecDepth 100000
section F4
variable {G : ai_G} {O : Nat → Nat} {y : yS} {ρ : Rv} {x : Int → Int} {X r : Nat} {bd ld : Nat → Nat} {μ : Mu} {K : Int → Nat} {sg : Nat → Nat}
theorem c_doesFit (hS : xS O y X r) (hg : xG G O y (uS μ 75) (uA μ) X sg) (hw : wfM μ) {c g : Int → Int} {v k : Int} (hv : 0 ≤ v) (hv2 : v < 729) (hc : ∀ i, 0 ≤ i → i < rR (uR μ) → ya y (X + 35) (6 * v + i).toNat = iI (c i) ∧ ya y (X + 36) (6 * v + i).toNat = iI (g i)) (hb : ∀ i, 0 ≤ i → i < rR (uR μ) → (0 ≤ c i ∧ c i ≤ 999) ∧ 0 ≤ g i ∧ g i ≤ 999) (h1 : -2147483648 ≤ k) (h2 : k < 2147483648) : ∃ y', fy_B_doesFit G y X (iI v) (iI k) = some (iI (fitN μ k c g (uS μ 75).toNat), y') ∧ yF O [] 1 4 y y' := by
  have h75 := hw.2.2.2.2.2.2.2.1
  have h10 := hw.2.2.2.2.2.2.2.2.2.1
  have hr := hw.1.2.1
  have hXn := hS.1.2.1
  obtain ⟨y1, e1, f1, i1⟩ := c_iter hg.1
  have hloop : ∃ q, lp (fy_B_doesFit_b8 G X (iI v) (iI k) (yn y)) y1 = some q ∧ ∃ y', Sum.elim (fun s => (iI 1, s)) id q = (iI (fitN μ k c g (uS μ 75).toNat), y') ∧ yF O [] 1 4 y y' := by
    refine lp_inv (fun i u => yF O [] 1 4 y u ∧ itY u (yn y) (X + 34) i ∧ fitN μ k c g i = 1) (uS μ 75).toNat ?_ ?_ ⟨f1, i1, rfl⟩
    · rintro i u hi ⟨g1, g2, g3⟩
      have gu := hg.fr g1 rfl
      have Su := hS.fr g1 rfl
      have eh := c_hasNext gu.1 g2 (by omega) (by omega) (by omega)
      rw [if_neg (by omega)] at eh
      obtain ⟨en, iN⟩ := c_next gu.1 g2 (by omega) (by omega) (by omega) (by omega)
      rw [Int.toNat_natCast] at en
      have fN : yF O [] 1 4 y (sF (sF u (yn y) 0 (iI ((i : Int) + 1))) (yn y) 1 (iI i)) := (g1.sfN (Nat.le_refl _)).sfN (Nat.le_refl _)
      generalize hN : sF (sF u (yn y) 0 (iI ((i : Int) + 1))) (yn y) 1 (iI i) = w at *
      have gw := hg.fr fN rfl
      have Sw := hS.fr fN rfl
      obtain ⟨t1, t2, t3, p0, p1, p2, p3, p4, p5⟩ := gw.2.1 i (by omega)
      obtain ⟨b1, b2, b3, b4, b5, b6⟩ := h10 i (by omega) (by omega)
      have bb := hb (uA μ 35 i - 1) (by omega) (by omega)
      obtain ⟨ac, ag⟩ := hc (uA μ 35 i - 1) (by omega) (by omega)
      have a35 : aI w (X + 35) (iI (6 * v + (uA μ 35 i - 1))) = some (iI (c (uA μ 35 i - 1))) := by
        rw [aI_n 4374 (x_t35 Sw) (by omega) (by omega) (by omega), x_arr hS fN 35 (by omega) (by omega) rfl, ac]
      have a36 : aI w (X + 36) (iI (6 * v + (uA μ 35 i - 1))) = some (iI (g (uA μ 35 i - 1))) := by
        rw [aI_n 4374 (x_t36 Sw) (by omega) (by omega) (by omega), x_arr hS fN 36 (by omega) (by omega) rfl, ag]
      have e0 : gI 15 0 w (sg i) = some (iI (uA μ 35 i - 1)) := by rw [gI_ok t1, p0]
      have e1 : gI 15 1 w (sg i) = some (iI (uA μ 36 i)) := by rw [gI_ok t1, p1]
      have e2 : gI 15 2 w (sg i) = some (iI (uA μ 37 i)) := by rw [gI_ok t1, p2]
      have e3 : gI 15 3 w (sg i) = some (iI (uA μ 34 i)) := by rw [gI_ok t1, p3]
      have e4 : gI 15 4 w (sg i) = some (iI (uA μ 39 i)) := by rw [gI_ok t1, p4]
      have e5 : gI 15 5 w (sg i) = some (iI (uA μ 38 i)) := by rw [gI_ok t1, p5]
      have ecn : fy_Sight_counts G w (sg i) (iI k) = some (iI (if k < uA μ 37 i ∨ (0 ≤ uA μ 38 i ∧ uA μ 38 i ≤ k) then 0 else 1)) := by
        simp (disch := omega) only [fy_Sight_counts, e2, e5, iI_lit, iI_add, iI_sub, iI_mul, iI_neg, obs, if_true, if_false, Int.reduceEq, Int.reduceLE, Int.reduceLT, Int.reduceAdd, Int.reduceSub, Int.reduceMul, Int.reduceNeg, Nat.reduceEqDiff, iI_le, iI_lt, iI_eq]
        by_cases c1 : k < uA μ 37 i
        · rw [if_pos c1, if_pos (Or.inl c1)]
        · rw [if_neg c1]
          by_cases c2 : uA μ 38 i < 0
          · rw [if_pos c2, if_neg (by omega)]
          · rw [if_neg c2]
            by_cases c3 : uA μ 38 i ≤ k
            · rw [if_pos c3, if_pos (by omega)]
            · rw [if_neg c3, if_neg (by omega)]
      have hsuc : fitN μ k c g (i + 1) = sgF μ k c g i := by
        simp only [fitN]
        rw [if_neg (by omega)]
      have hstop : sgF μ k c g i = 0 → fitN μ k c g (uS μ 75).toNat = 0 := by
        intro hz
        have := fitN_stop (μ := μ) (k := k) (c := c) (h := g) (i := i + 1) (by rw [hsuc]; exact hz) ((uS μ 75).toNat - (i + 1))
        rwa [show i + 1 + ((uS μ 75).toNat - (i + 1)) = (uS μ 75).toNat by omega] at this
      by_cases hcn : k < uA μ 37 i ∨ (0 ≤ uA μ 38 i ∧ uA μ 38 i ≤ k)
      · left
        refine ⟨w, ?_, fN, iN, by rw [hsuc]; unfold sgF; rw [if_pos hcn]⟩
        simp only [fy_B_doesFit_b8, ck_ok g2.1, eh, iI_lit, iI_add, iI_sub, iI_mul, iI_neg, obs, if_true, if_false, Int.reduceEq, Int.reduceLE, Int.reduceLT, Int.reduceAdd, Int.reduceSub, Int.reduceMul, Int.reduceNeg, Nat.reduceEqDiff, show ¬ iI 1 = iI 0 by decide, en, ck_ok t1, ecn, if_pos hcn]
      · -- what was so
        have hj : ∀ t : Int, 0 ≤ t → t ≤ 999 → fy_B_doesFit_j81 G w X (iI v) (iI k) (yn y) (sg i) (iI t) = if (if uA μ 36 i ≤ t then 1 else 0) = uA μ 39 i then some (.inl w) else some (.inr (.inr (iI 0, w))) := by
          intro t t1 t2
          simp (disch := omega) only [fy_B_doesFit_j81, e1, e4, iI_lit, iI_add, iI_sub, iI_mul, iI_neg, obs, if_true, if_false, Int.reduceEq, Int.reduceLE, Int.reduceLT, Int.reduceAdd, Int.reduceSub, Int.reduceMul, Int.reduceNeg, Nat.reduceEqDiff, iI_le, iI_lt, iI_eq]
          by_cases ct : t < uA μ 36 i
          · rw [if_pos ct, if_neg (show ¬ uA μ 36 i ≤ t by omega)]
          · rw [if_neg ct, if_pos (show uA μ 36 i ≤ t by omega)]
        have hbody : fy_B_doesFit_b8 G X (iI v) (iI k) (yn y) u = if sgF μ k c g i = 1 then some (.inl w) else some (.inr (.inr (iI 0, w))) := by
          simp (disch := omega) only [fy_B_doesFit_b8, ck_ok g2.1, eh, iI_lit, iI_add, iI_sub, iI_mul, iI_neg, obs, if_true, if_false, Int.reduceEq, Int.reduceLE, Int.reduceLT, Int.reduceAdd, Int.reduceSub, Int.reduceMul, Int.reduceNeg, Nat.reduceEqDiff, show ¬ iI 1 = iI 0 by decide, en, ck_ok t1, ecn, if_neg hcn, e3, e0, iI_le, iI_lt, iI_eq, x_24 Sw, x_25 Sw, a35, a36, hj, sgF]
          rcases b1 with z | z
          · simp only [if_pos z]
            by_cases q : (if uA μ 36 i ≤ c (uA μ 35 i - 1) then (1 : Int) else 0) = uA μ 39 i
            · rw [if_pos q, if_pos (by rw [if_pos q])]
            · rw [if_neg q, if_neg (by rw [if_neg q]; omega)]
          · simp only [if_neg (show ¬ uA μ 34 i = 0 by omega)]
            by_cases q : (if uA μ 36 i ≤ g (uA μ 35 i - 1) then (1 : Int) else 0) = uA μ 39 i
            · rw [if_pos q, if_pos (by rw [if_pos q])]
            · rw [if_neg q, if_neg (by rw [if_neg q]; omega)]
        by_cases hq : sgF μ k c g i = 1
        · left
          refine ⟨w, by rw [hbody, if_pos hq], fN, iN, by rw [hsuc]; exact hq⟩
        · right
          have h0 : sgF μ k c g i = 0 := by
            have := fitN_01 μ k c g (i + 1)
            rw [hsuc] at this
            omega
          refine ⟨.inr (iI 0, w), by rw [hbody, if_neg hq], w, ?_, fN⟩
          rw [hstop h0]
          rfl
    · rintro u ⟨g1, g2, g3⟩
      have gu := hg.fr g1 rfl
      have eh := c_hasNext gu.1 g2 (by omega) (by omega) (by omega)
      rw [if_pos (by omega)] at eh
      refine ⟨.inl u, ?_, u, by rw [g3]; rfl, g1⟩
      simp only [fy_B_doesFit_b8, ck_ok g2.1, eh, iI_lit, iI_add, iI_sub, iI_mul, iI_neg, obs, if_true, if_false, Int.reduceEq, Int.reduceLE, Int.reduceLT, Int.reduceAdd, Int.reduceSub, Int.reduceMul, Int.reduceNeg, Nat.reduceEqDiff]
  obtain ⟨q, eq, y', e', f'⟩ := hloop
  refine ⟨y', ?_, f'⟩
  unfold fy_B_doesFit
  rw [x_23 hS, obs, l_c hg.1, obs, e1, obs]
  simp only
  rw [eq, obs]
  cases q with
  | inl q => exact congrArg some e'
  | inr q => exact congrArg some e'
def talY (n : Int) (u : yS) (X : Nat) (T : Int → Int → Int) : Prop := ∀ i e, 0 ≤ i → i < n → -1 ≤ e → e ≤ 1 → ya u (X + 37) (3 * i + e + 1).toNat = iI (T i e)
theorem c_tally {n v : Int} {T : Int → Int → Int} (hS : xS O y X r) (hn : 0 ≤ n ∧ n ≤ 6) (hv : 0 ≤ v) (hv2 : v < 729) (hT : talY n y X T) (v1 : Int32) : ∃ q, lp (fy_B_layFits_b171 G X v1 (iI n) (iI v)) (iI 0, y) = some q ∧ (yF O [21] 0 0 y q ∧ talY n q X (fun i e => T i e + (if dig v n i = e then 1 else 0))) := by
  refine lp_inv (fun i q => q.1 = iI i ∧ yF O [21] 0 0 y q.2 ∧ talY n q.2 X (fun j e => T j e + (if j < i ∧ dig v n j = e then 1 else 0))) n.toNat ?_ ?_ ⟨rfl, yF.refl, fun i e i1 i2 e1 e2 => ?_⟩
  · rintro i ⟨k, w⟩ hi ⟨g1, g2, g3⟩
    simp only at g1 g2 g3
    subst g1
    have Sw := hS.fr g2 rfl
    have hti := dig_b v n i
    have es := c_steerOf (v := v) (n := n) (k := i) hv (by omega) (by omega) (by omega) hn.2
    have e3 := g3 i (dig v n i) (by omega) (by omega) hti.1 hti.2
    simp only at e3
    rw [if_neg (by omega), Int.add_zero] at e3
    have a37 : aI w (X + 37) (iI (3 * (i : Int) + dig v n i + 1)) = some (iI (T i (dig v n i))) := by
      rw [aI_n 18 (x_t37 Sw) (by omega) (by omega) (by omega), e3]
    left
    refine ⟨(iI ((i : Int) + 1), yw w (X + 37) (3 * (i : Int) + dig v n i + 1).toNat (iI (T i (dig v n i) + 1))), ?_, rfl, g2.w (by rw [x_o37 hS]; rfl), fun j e j1 j2 j3 j4 => ?_⟩
    · simp (disch := omega) only [fy_B_layFits_b171, iI_lit, iI_add, iI_sub, iI_mul, iI_neg, obs, if_true, if_false, Int.reduceEq, Int.reduceLE, Int.reduceLT, Int.reduceAdd, Int.reduceSub, Int.reduceMul, Int.reduceNeg, Nat.reduceEqDiff, iI_le, iI_lt, iI_eq, x_26 Sw, es, a37, wA_n 18 (x_t37 Sw)]
      rw [if_neg (by omega)]
    · rw [yw_get]
      by_cases hz : j = i ∧ e = dig v n i
      · obtain ⟨rfl, rfl⟩ := hz
        show _ = iI (T i (dig v n i) + (if (i : Int) < ((i + 1 : Nat) : Int) ∧ dig v n i = dig v n i then 1 else 0))
        rw [if_pos ⟨rfl, rfl⟩, if_pos ⟨by omega, rfl⟩]
      · rw [if_neg (by omega), g3 j e j1 j2 j3 j4]
        show iI (T j e + (if j < (i : Int) ∧ dig v n j = e then 1 else 0)) = iI (T j e + (if j < ((i + 1 : Nat) : Int) ∧ dig v n j = e then 1 else 0))
        by_cases hj : j < (i : Int) ∧ dig v n j = e
        · rw [if_pos hj, if_pos (by omega)]
        · rw [if_neg hj, if_neg]
          rintro ⟨z1, z2⟩
          by_cases hji : j = i
          · exact hz ⟨hji, by rw [← z2, hji]⟩
          · exact hj ⟨by omega, z2⟩
  · rintro ⟨k, w⟩ ⟨g1, g2, g3⟩
    simp only at g1 g2 g3
    subst g1
    refine ⟨w, ?_, g2, fun j e j1 j2 j3 j4 => ?_⟩
    · simp (disch := omega) only [fy_B_layFits_b171, iI_lit, iI_add, iI_sub, iI_mul, iI_neg, obs, if_true, if_false, Int.reduceEq, Int.reduceLE, Int.reduceLT, Int.reduceAdd, Int.reduceSub, Int.reduceMul, Int.reduceNeg, Nat.reduceEqDiff, iI_le, iI_lt, iI_eq]
      rw [if_pos (by omega)]
    · rw [g3 j e j1 j2 j3 j4]
      show iI (T j e + (if j < ((n.toNat : Nat) : Int) ∧ dig v n j = e then 1 else 0)) = iI (T j e + (if dig v n j = e then 1 else 0))
      by_cases hj : dig v n j = e
      · rw [if_pos ⟨by omega, hj⟩, if_pos hj]
      · rw [if_neg (fun z => hj z.2), if_neg hj]
  · rw [hT i e i1 i2 e1 e2]
    congr 1
    show T i e = T i e + (if i < ((0 : Nat) : Int) ∧ dig v n i = e then 1 else 0)
    rw [if_neg (by omega), Int.add_zero]
theorem c_fitGo {n v : Int} {xb : Int → Int} (h : XC G O y ρ x X r bd ld) (hw : wfR ρ) (hB : 0 < rB ρ) (hV : vlY y (rL ρ) (X + 15) xb) (hx : wfS ρ xb) (h4 : xb 4 = 0) (hv : 0 ≤ v) (hv2 : v < 729) (hn : n = rR ρ) (v1 : Int32) : ∃ q, lp (fy_B_layFits_b69 G X v1 (iI n) (iI v)) (iI 0, y) = some q ∧ (yF O [2, 24, 19, 20] 0 0 y q ∧ ∀ i, 0 ≤ i → i < n → ya q (X + 35) (6 * v + i).toNat = iI (ftR ρ xb (dig v n) (i.toNat + 1) 0) ∧ ya q (X + 36) (6 * v + i).toNat = iI (ftR ρ xb (dig v n) (i.toNat + 1) 8)) := by
  have hr := hw.2.1
  refine lp_inv (fun i q => q.1 = iI i ∧ yF O [2, 24, 19, 20] 0 0 y q.2 ∧ vlY q.2 (rL ρ) (X + 15) (ftR ρ xb (dig v n) i) ∧ ∀ j, 0 ≤ j → j < (i : Int) → ya q.2 (X + 35) (6 * v + j).toNat = iI (ftR ρ xb (dig v n) (j.toNat + 1) 0) ∧ ya q.2 (X + 36) (6 * v + j).toNat = iI (ftR ρ xb (dig v n) (j.toNat + 1) 8)) n.toNat ?_ ?_ ⟨rfl, yF.refl, hV, fun j j1 j2 => by omega⟩
  · rintro i ⟨k, u⟩ hi ⟨g1, g2, g3, g4⟩
    simp only at g1 g2 g3 g4
    subst g1
    have hu := h.fr g2 rfl
    obtain ⟨w1, w2⟩ := ft_wf (t := dig v n) hw hx hB h4 i (by omega)
    have h0 := (w1.1 0 (by omega) hB).2.1
    rw [show (4 : Int) + 0 = 4 from rfl] at h0
    have hd := dig_b v n i
    have es := c_steerOf (v := v) (n := n) (k := i) hv (by omega) (by omega) (by omega) (by omega)
    obtain ⟨u2, e2, f2, v2⟩ := c_stroke (b := 0) (t := dig v n i) (out := 1) (fl := 0) hu.2.1 hw (x_th hu.1) g3 w1 (Or.inr rfl) (by omega) hB hd.1 hd.2 (Or.inr rfl) (Or.inl rfl) (by rw [on1, show (4 : Int) + 0 = 4 from rfl]; omega) (by rw [on1, show (4 : Int) + 0 = 4 from rfl]; omega)
    rw [on1, Int.add_zero] at e2 v2
    have f2' : yF O [2, 24, 19, 20] 0 0 u u2 := f2.m0 rfl
    have hu2 := hu.fr f2' rfl
    have c0 := s_a0 (x_th hu2.1) v2 (b := 0) (by omega) (by omega)
    have f3 : yF O [2, 24, 19, 20] 0 0 u2 (yw u2 (X + 35) (6 * v + (i : Int)).toNat (iI (ftR ρ xb (dig v n) (i + 1) 0))) := yF.refl.w (by rw [x_o35 h.1]; rfl)
    have hu3 := hu2.fr f3 rfl
    have v3 : vlY (yw u2 (X + 35) (6 * v + (i : Int)).toNat (iI (ftR ρ xb (dig v n) (i + 1) 0))) (rL ρ) (X + 15) (ftR ρ xb (dig v n) (i + 1)) := v2.o (by omega)
    have c8 := s_a2 (x_th hu3.1) v3 (b := 0) (by omega) (by omega)
    left
    refine ⟨(iI ((i : Int) + 1), yw (yw u2 (X + 35) (6 * v + (i : Int)).toNat (iI (ftR ρ xb (dig v n) (i + 1) 0))) (X + 36) (6 * v + (i : Int)).toNat (iI (ftR ρ xb (dig v n) (i + 1) 8))), ?_, rfl, ((g2.t0 f2').t0 f3).w (by rw [x_o36 h.1]; rfl), v3.o (by omega), fun j j1 j2 => ?_⟩
    · simp (disch := omega) only [fy_B_layFits_b69, iI_lit, iI_add, iI_sub, iI_mul, iI_neg, obs, if_true, if_false, Int.reduceEq, Int.reduceLE, Int.reduceLT, Int.reduceAdd, Int.reduceSub, Int.reduceMul, Int.reduceNeg, Nat.reduceEqDiff, iI_le, iI_lt, iI_eq, x_2 hu.1, x_0 hu.1, es, s_c (x_th hu.1), e2]
      rw [if_neg (by omega)]
      simp (disch := omega) only [x_24 hu2.1, x_2 hu2.1, s_0 (x_th hu2.1), c0, iI_lit, iI_add, iI_sub, iI_mul, iI_neg, obs, if_true, if_false, Int.reduceEq, Int.reduceLE, Int.reduceLT, Int.reduceAdd, Int.reduceSub, Int.reduceMul, Int.reduceNeg, Nat.reduceEqDiff, wA_n 4374 (x_t35 hu2.1)]
      rw [show strS ρ (ftR ρ xb (dig v n) i) 0 (dig v n i) 1 1 0 = ftR ρ xb (dig v n) (i + 1) 0 from rfl]
      simp (disch := omega) only [x_25 hu3.1, x_2 hu3.1, s_2 (x_th hu3.1), c8, iI_lit, iI_add, iI_sub, iI_mul, iI_neg, obs, if_true, if_false, Int.reduceEq, Int.reduceLE, Int.reduceLT, Int.reduceAdd, Int.reduceSub, Int.reduceMul, Int.reduceNeg, Nat.reduceEqDiff, wA_n 4374 (x_t36 hu3.1), Int.add_zero]
    · by_cases hj : j = i
      · subst hj
        rw [yw_ne (a' := X + 35) (by omega), yw_get, yw_get, if_pos ⟨rfl, rfl⟩, if_pos ⟨rfl, rfl⟩]
        exact ⟨rfl, rfl⟩
      · have o35 : ya u2 (X + 35) = ya u (X + 35) := by
          refine f2.arr (by have := hu.1.1.2.1; omega) ?_
          rw [x_o35 h.1]
          rfl
        have o36 : ya u2 (X + 36) = ya u (X + 36) := by
          refine f2.arr (by have := hu.1.1.2.1; omega) ?_
          rw [x_o36 h.1]
          rfl
        obtain ⟨q1, q2⟩ := g4 j j1 (by omega)
        rw [yw_ne (a' := X + 35) (by omega), yw_get, yw_get, if_neg (by omega), if_neg (by omega), yw_ne (by omega), o35, o36]
        exact ⟨q1, q2⟩
  · rintro ⟨k, u⟩ ⟨g1, g2, g3, g4⟩
    simp only at g1 g2 g3 g4
    subst g1
    refine ⟨u, ?_, g2, fun j j1 j2 => g4 j j1 (by omega)⟩
    simp (disch := omega) only [fy_B_layFits_b69, iI_lit, iI_add, iI_sub, iI_mul, iI_neg, obs, if_true, if_false, Int.reduceEq, Int.reduceLE, Int.reduceLT, Int.reduceAdd, Int.reduceSub, Int.reduceMul, Int.reduceNeg, Nat.reduceEqDiff, iI_le, iI_lt, iI_eq]
    rw [if_pos (by omega)]
end F4

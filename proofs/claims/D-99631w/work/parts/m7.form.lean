/-! LAYER 3, the formula: a relation, a not; the whole -/
set_option maxRecDepth 100000
section M7
variable {G : ai_G} {O : Nat → Nat} {T : Int → Int} {n : Int} {R A F r : Nat}
theorem J_one (hT : txO T n) (hG : okW G) {dm : Int} {rE rO : yS → Nat → Option ((Nat ⊕ Nat) × yS)} (hS : JN G O T n R A F r dm (fun S τ => lowT 5 S ∧ preN S τ) 5 (fy_Reader_sum G rE rO)) (hO1 : JN G O T n R A F r (dm + 1) (fun S _ => lowT 4 S) 3 rO) : JN G O T n R A F r dm (fun S _ => lowT 4 S) 3 (fy_Reader_one G rE rO) := by
  intro y s τ u m d S l hJ hdm hpre
  have hJ0 := hJ
  obtain ⟨hC, hM, hu, hm, hd, hl1, hl2⟩ := hJ
  have hn := hT.1
  have ht := hC.1.2.2
  have tb := ht.1
  have t0 := hC.1.1.1.1
  have hmay : mayN S := by
    cases S with
    | nil => trivial
    | cons c S => exact hpre
  obtain ⟨a12, c12, w12⟩ := hG.2.2.1 12 (by omega)
  have eW := c_isW hT hG hC.2.2.2.1 hC.1.1 hC.1.2.1 ht w12 (cst_lt _ (by decide))
  by_cases cn : isW τ W_not
  · -- a not
    have n3 := cn.1
    have fk2 : fkT τ = 2 := by unfold fkT; rw [if_neg (by omega)]
    obtain ⟨U1, U2⟩ := U_not hT hM hd (by omega) cn hmay
    have ed : gI 8 9 y R = some (iI d) := by rw [gI_ok t0, hC.2.2.1.2]
    have eX : fy_Reader_one G rE rO y R = (fy_Reader_open G y R).bind fun p10 => Sum.elim (fun q10 => some (.inl q10, p10.2)) (fun _ => (mk 11 p10.2).bind fun s13 => (ck 8 s13.2 R).bind fun _ => (rO s13.2 R).bind fun p18 => Sum.elim (fun q18 => some (.inl q18, p18.2)) (fun v18 => (fy_Not_init G p18.2 s13.1 v18).bind fun p21 => (gI 8 9 p21 R).bind fun x27 => (wI 8 9 p21 R (x27 - 1)).bind fun s32 => some (.inr s13.1, s32)) p18.1) p10.1 := by
      unfold fy_Reader_one
      rw [c12, obs, ck_ok t0, obs, eW, obs, if_pos (show isW τ (cstW.getD 12 []) from cn), if_neg (by decide), obs]
    rw [eX]
    by_cases cd : d ≤ 6
    · obtain ⟨s1, j1, j2, j3⟩ := U1 cd
      obtain ⟨w3, hC3, f3⟩ := hC.deep (d + 1)
      obtain ⟨y4, w4, hC4, f4, -⟩ := hC3.adv hT (by omega)
      have f14 : yF O LF 0 0 y y4 := f3.t0 f4
      have eo : fy_Reader_open G y R = some (.inr (), y4) := by
        unfold fy_Reader_open
        rw [ed, obs, if_neg (by rw [show (7 : Int32) = iI 7 from rfl, iI_eq (by omega) (by omega) (by omega) (by omega)]; omega), obs, i1, iI_add, w3, obs, ck_ok hC3.1.1.1.1, obs, w4, obs]
      obtain ⟨ht4, hp4⟩ := tk_ok (T := T) (n := n) (p := tE τ) (by omega) (by omega)
      have hpe : tP τ < tE τ := ht.2.2.2.1 (by omega) (by omega)
      have fn := nO_F (O := O) (y := y4) (k := 11)
      have hC5 := hC4.fr0 fn
      have hOa : O (yn y4) = 1 := hC4.2.2.2.2.2.2.2.2.2.2 _ (Nat.le_refl _)
      have t11 : yt (nO y4 11) (yn y4) = some (.inr 11) := by rw [nO_t, if_pos rfl]
      have r11 : yr (nO y4 11) (yn y4) = fun _ => none := by rw [nO_r, if_pos rfl]
      have n11 : yn y4 < yn (nO y4 11) := by show yn y4 < yn y4 + 1; omega
      have h11 : ai_nf 11 ≤ 20 := by decide
      have f15 : yF O LF 1 (ai_nf 11) y (nO y4 11) := (f14.trans (fn.m0 (L' := LF) rfl)).mono rfl (by omega) (by omega)
      rw [eo, obs]
      simp only [Sum.elim_inr, mk, obs]
      rw [ck_ok hC5.1.1.1.1, obs, j1]
      rcases hO1 (nO y4 11) s1 (tk T n (tE τ)) u m (d + 1) (21 :: S) l ⟨hC5, j2, hu, hm, by omega, by simp only [List.length_cons]; omega, by simp only [List.length_cons]; omega⟩ (by omega) (Or.inr (by decide)) with hbad | hok
      · left
        refine hbad.up (fun y' e => ?_) rfl f15 j3 (by omega) (by omega) (by omega)
        rw [e, obs]
        rfl
      · right
        obtain ⟨y', s', a, τ', u', m', lo, l', P, k1, k2, k3, k4, k5, k6, ⟨k7, k8⟩, k9, k10, k11, k12, k13⟩ := hok
        have ta : yt y' (yn y4) = some (.inr 11) := by rw [k11.tag n11]; exact t11
        have ra : yr y' (yn y4) 0 = none := by rw [k11.ref n11 (by rw [hOa]; rfl), r11]
        have la : yn y4 < yn y' := Nat.lt_of_lt_of_le n11 k11.nx
        have fat : atY (yn y4) y' (sR y' (yn y4) 0 (some a)) := atY.refl.sr
        have hRa : ¬ R = yn y4 := fun z => by have := k3.1.1.1.1; rw [z, ta] at this; cases this
        have hra : ¬ r = yn y4 := fun z => by have := k3.2.1.1; rw [z, ta] at this; cases this
        have hC6 := k3.at fat hRa hra
        obtain ⟨w7, hC7, f7⟩ := hC6.deep d
        have ed6 : gI 8 9 (sR y' (yn y4) 0 (some a)) R = some (iI (d + 1)) := by rw [gI_ok hC6.1.1.1.1, hC6.2.2.1.2]
        have happ : (P ++ [21]) ++ S = P ++ 21 :: S := by simp
        have hnt : ntS (P ++ [21]) = ntS P + 1 := by rw [ntS_app]; simp [ntS]
        refine ⟨sF (sR y' (yn y4) 0 (some a)) R 9 (iI d), s', yn y4, τ', u', m', lo, l' ++ [(2, 0)], P ++ [21], ?_, k2, hC7, ?_, ?_, ?_, ⟨fun c hc => ?_, by rw [happ]; exact k8⟩, by rw [hnt]; omega, ?_, ?_, ?_, j3.trans k13⟩
        · rw [k1, obs]
          simp only [Sum.elim_inr]
          unfold fy_Not_init fy_Part_init
          rw [obs, wR_ok ta, obs, obs, ed6, obs, i1, iI_sub, show d + 1 - 1 = d by omega, w7, obs]
        · rw [hnt, happ, show d + (ntS P + 1) = d + 1 + ntS P by omega]
          exact k4
        · rw [flS_app, ← List.append_assoc, k5, List.append_assoc]
          rfl
        · refine trY.fr f7 rfl rfl _ _ _ ?_
          have e0 : (m' - m + 7 - d).toNat = (m' - m + 7 - (d + 1)).toNat + 1 := by omega
          rw [e0]
          refine ⟨⟨hOa, la⟩, Or.inr (Or.inr (Or.inl ⟨ta, a, l', ?_, trY.at fat (Or.inr ⟨ta, ra⟩) _ _ _ k6, rfl⟩))⟩
          rw [sR_get, if_pos ⟨rfl, rfl⟩]
        · rcases List.mem_append.mp hc with hc | hc
          · exact k7 c hc
          · rw [List.mem_singleton.mp hc]; exact ⟨by decide, by decide⟩
        · rw [hnt, happ]
          omega
        · exact (((f15.trans k11).at fat (by have := f14.nx; omega)).trans f7).mono rfl (by omega) (by omega)
        · omega
    · left
      obtain ⟨s', j1, j2, j3, j4⟩ := U2 cd
      have ew := c_wrong (G := G) hC.1.1 hC.1.2.1
      have ck3 := ck_wr hC.1.1 (fkT τ) (tP τ)
      have eo : fy_Reader_open G y R = some (.inl F, wrY y F (fkT τ) (tP τ)) := by
        unfold fy_Reader_open
        rw [ed, obs, show d = 7 by omega, if_pos (show iI 7 = (7 : Int32) from rfl), ck_ok t0, obs, ew, obs, ck3, obs]
      exact JBad.here (k := 2) hC hn.2 (by rw [eo, obs, fk2]; rfl) j1 j2 j3 (by omega) yF.refl j4 (Int.le_refl _) (by omega) (by omega)
  · -- a sum, it may be a relation
    have eX : fy_Reader_one G rE rO y R = (fy_Reader_sum G rE rO y R).bind fun p38 => Sum.elim (fun q38 => some (.inl q38, p38.2)) (fun v38 => (ck 8 p38.2 R).bind fun _ => (fy_Reader_isSignHere G p38.2 R 60).bind fun p45 => if p45 = 0 then ((ck 8 p38.2 R).bind fun _ => (fy_Reader_isSignHere G p38.2 R 62).bind fun p54 => if p54 = 0 then ((ck 8 p38.2 R).bind fun _ => (fy_Reader_isSignHere G p38.2 R 61).bind fun p63 => if p63 = 0 then (some (.inr v38, p38.2)) else (fy_Reader_one_j71 G rE rO p38.2 R v38)) else (fy_Reader_one_j71 G rE rO p38.2 R v38)) else (fy_Reader_one_j71 G rE rO p38.2 R v38)) p38.1 := by
      unfold fy_Reader_one
      rw [c12, obs, ck_ok t0, obs, eW, obs, if_neg (show ¬ isW τ (cstW.getD 12 []) from cn), if_pos rfl, obs]
    rw [eX]
    rcases hS y s τ u m d S l hJ0 hdm ⟨by cases S with
      | nil => trivial
      | cons c S =>
        rcases hpre with q | q
        · exact Or.inl q
        · exact Or.inr (by omega), fun z => cn z.1⟩ with hbad | hok
    · left
      refine hbad.up (fun y' e => ?_) rfl yF.refl fr.refl (Int.le_refl _) (by omega) (by omega)
      rw [e, obs]
      rfl
    · obtain ⟨y1, s1, a1, τ1, u1, m1, lo1, l1, P1, k1, k2, k3, k4, k5, k6, ⟨k7, k8⟩, k9, k10, k11, k12, k13⟩ := hok
      have ht1 := k3.1.2.2
      have tb1 := ht1.1
      have t1 := k3.1.1.1.1
      have nb1 := ntS_b P1
      have e1 := c_signHere (G := G) hT k3.1.1 k3.1.2.1 ht1 (c := 60) (by decide)
      have e2 := c_signHere (G := G) hT k3.1.1 k3.1.2.1 ht1 (c := 62) (by decide)
      have e3 := c_signHere (G := G) hT k3.1.1 k3.1.2.1 ht1 (c := 61) (by decide)
      have eY : (fy_Reader_sum G rE rO y R).bind (fun p38 => Sum.elim (fun q38 => some ((.inl q38 : Nat ⊕ Nat), p38.2)) (fun v38 => (ck 8 p38.2 R).bind fun _ => (fy_Reader_isSignHere G p38.2 R 60).bind fun p45 => if p45 = 0 then ((ck 8 p38.2 R).bind fun _ => (fy_Reader_isSignHere G p38.2 R 62).bind fun p54 => if p54 = 0 then ((ck 8 p38.2 R).bind fun _ => (fy_Reader_isSignHere G p38.2 R 61).bind fun p63 => if p63 = 0 then (some ((.inr v38 : Nat ⊕ Nat), p38.2)) else (fy_Reader_one_j71 G rE rO p38.2 R v38)) else (fy_Reader_one_j71 G rE rO p38.2 R v38)) else (fy_Reader_one_j71 G rE rO p38.2 R v38)) p38.1) = if tS τ1 = 60 ∨ tS τ1 = 62 ∨ tS τ1 = 61 then fy_Reader_one_j71 G rE rO y1 R a1 else some (.inr a1, y1) := by
        rw [k1, obs]
        simp only [Sum.elim_inr, ck_ok t1, e1, e2, e3, iI_lit, iI_add, iI_sub, iI_mul, iI_neg, obs, if_true, if_false, Int.reduceEq, Int.reduceLE, Int.reduceLT, Int.reduceAdd, Int.reduceSub, Int.reduceMul, Int.reduceNeg, Nat.reduceEqDiff]
        by_cases c1 : tS τ1 = 60
        · simp only [if_pos c1, show ¬ iI 1 = iI 0 by decide, if_false, if_pos (show tS τ1 = 60 ∨ tS τ1 = 62 ∨ tS τ1 = 61 from Or.inl c1)]
        · simp only [if_neg c1, if_true]
          by_cases c2 : tS τ1 = 62
          · simp only [if_pos c2, show ¬ iI 1 = iI 0 by decide, if_false, if_pos (show tS τ1 = 60 ∨ tS τ1 = 62 ∨ tS τ1 = 61 from Or.inr (Or.inl c2))]
          · simp only [if_neg c2, if_true]
            by_cases c3 : tS τ1 = 61
            · simp only [if_pos c3, show ¬ iI 1 = iI 0 by decide, if_false, if_pos (show tS τ1 = 60 ∨ tS τ1 = 62 ∨ tS τ1 = 61 from Or.inr (Or.inr c3))]
            · simp only [if_neg c3, if_true]
              rw [if_neg (by omega)]
      rw [eY]
      have hlowP : stq 5 τ1 (P1 ++ S) → ¬ tg (sgT τ1) = 4 → stq 3 τ1 (P1 ++ S) := by
        intro z1 z2
        rcases z1 with w | w | w
        · exact Or.inl w
        · right; left
          have h3 : ¬ tg (sgT τ1) = 3 := fun q => (sgT_20 (τ := τ1)).2 (tg_3 q)
          omega
        · omega
      by_cases cr : tS τ1 = 60 ∨ tS τ1 = 62 ∨ tS τ1 = 61
      · rw [if_pos cr]
        have hsg : sgT τ1 = tS τ1 ∧ tg (sgT τ1) = 4 := by
          have hw1 : ¬ isW τ1 W_and := fun q => by have := q.1; omega
          have hw2 : ¬ isW τ1 W_or := fun q => by have := q.1; omega
          rcases sg_cases τ1 with w | w | w | w
          · exact absurd w.1 hw1
          · exact absurd w.2.1 hw2
          · exact ⟨w.2.2.1, by omega⟩
          · omega
        obtain ⟨sg1, sg2⟩ := hsg
        obtain ⟨n20, n21⟩ := sgT_20 (τ := τ1)
        have hpe : tP τ1 < tE τ1 := ht1.2.2.2.1 (by omega) (by omega)
        obtain ⟨ht2, hp2⟩ := tk_ok (T := T) (n := n) (p := tE τ1) (by omega) (by omega)
        simp only [List.length_append] at k10
        obtain ⟨s2, j1, j2, j3⟩ := B_op hT k4 (by omega) (fun _ => hasRel_lo k7 hpre) (fun c hc => ⟨(k7 c hc).1, by have := (k7 c hc).2; omega⟩) (by rw [sg2]; exact hpre) (by simp only [List.length_append]; omega) (by omega)
        rw [k5] at j2
        have e0 : d + ntS P1 - ntS P1 = d := by omega
        rw [e0] at j2
        obtain ⟨y2, q1, q2, q3, q4, q5⟩ := c_opn (G := G) hT k3 (by omega)
        have fn := nO_F (O := O) (y := y2) (k := 14)
        have hC2 := q4.fr0 fn
        have hll : (l ++ l1).length = lo1.length + P1.length := by rw [← k5, List.length_append, flS_len]
        have hOa : O (yn y2) = 1 := q4.2.2.2.2.2.2.2.2.2.2 _ (Nat.le_refl _)
        have t14 : yt (nO y2 14) (yn y2) = some (.inr 14) := by rw [nO_t, if_pos rfl]
        have r14 : yr (nO y2 14) (yn y2) = fun _ => none := by rw [nO_r, if_pos rfl]
        have n14 : yn y2 < yn (nO y2 14) := by show yn y2 < yn y2 + 1; omega
        have h14 : ai_nf 14 ≤ 20 := by decide
        have fy1 : yF O LF ((tP τ1 - tP τ).toNat + 1) (20 * (tP τ1 - tP τ).toNat + ai_nf 14) y (nO y2 14) := ((k11.trans q5).trans (fn.m0 (L' := LF) rfl)).mono rfl (by omega) (by omega)
        have e71 : fy_Reader_one_j71 G rE rO y1 R a1 = (fy_Reader_sum G rE rO (nO y2 14) R).bind fun p91 => Sum.elim (fun q91 => some ((.inl q91 : Nat ⊕ Nat), p91.2)) (fun v91 => (fy_Two_init G p91.2 (yn y2) (iI (sgT τ1)) a1 v91).bind fun p94 => some ((.inr (yn y2) : Nat ⊕ Nat), p94)) p91.1 := by
          unfold fy_Reader_one_j71 mk
          rw [q1, obs, ck_ok t1, obs, q2, obs, obs, q3, obs, obs]
          simp only
          rw [ck_ok hC2.1.1.1.1, obs, sg1]
        rw [e71, k2, j1]
        rcases hS (nO y2 14) s2 (tk T n (tE τ1)) u1 m1 d (sgT τ1 :: S) (l ++ l1) ⟨hC2, j2, by omega, by omega, hd, by simp only [List.length_cons]; omega, by simp only [List.length_cons]; omega⟩ hdm ⟨Or.inr (by omega), fun z => by
          rcases z.2 with q | q
          · exact n20 q
          · omega⟩ with hbad | hok
        · left
          refine hbad.up (fun y' e => ?_) rfl fy1 (k13.trans j3) (by omega) (by omega) (by omega)
          rw [e, obs]
          rfl
        · right
          obtain ⟨y3, s3, a3, τ3, u3, m3, lo3, l3, P3, g1, g2, g3, g4, g5, g6, ⟨g7, g8⟩, g9, g10, g11, g12, g13⟩ := hok
          have ta : yt y3 (yn y2) = some (.inr 14) := by rw [g11.tag n14]; exact t14
          have ra : yr y3 (yn y2) 1 = none := by rw [g11.ref n14 (by rw [hOa]; rfl), r14]
          have la : yn y2 < yn y3 := Nat.lt_of_lt_of_le n14 g11.nx
          have htr2 : trY O y3 (m3 - m + 7 - d - 1).toNat a1 l1 := (trY.fr g11 rfl rfl _ _ _ (trY.fr fn rfl rfl _ _ _ (trY.fr q5 rfl rfl _ _ _ k6))).le (by omega)
          have hta2 : trY O y3 (m3 - m + 7 - d - 1).toNat a3 l3 := g6.le (by omega)
          obtain ⟨y4, w1, w2, w3, w4⟩ := c_two (y2 := y3) (c := sgT τ1) g3 hOa la ta ra htr2 hta2
          have happ : (P3 ++ [sgT τ1]) ++ S = P3 ++ sgT τ1 :: S := by simp
          have hnt : ntS (P3 ++ [sgT τ1]) = ntS P3 := by rw [ntS_app]; simp only [ntS, if_neg n21]; omega
          have hlf : (flS [sgT τ1]) = [(3, iI (sgT τ1))] := by simp [flS, n21]
          refine ⟨y4, s3, yn y2, τ3, u3, m3, lo3, l1 ++ (l3 ++ [(3, iI (sgT τ1))]), P3 ++ [sgT τ1], ?_, g2, w2, by rw [hnt, happ]; exact g4, ?_, w4.le (by omega), ⟨fun c hc => ?_, ?_⟩, by rw [hnt]; omega, by rw [hnt, happ]; exact g10, ?_, by omega, (k13.trans j3).trans g13⟩
          · rw [g1, obs]
            simp only [Sum.elim_inr]
            rw [w1, obs]
          · rw [flS_app, hlf, ← List.append_assoc, g5]; simp
          · rcases List.mem_append.mp hc with hc | hc
            · exact ⟨(g7 c hc).1, by have := (g7 c hc).2; omega⟩
            · rw [List.mem_singleton.mp hc]; exact ⟨n20, by omega⟩
          · rw [happ]
            rcases g8 with w | w | w
            · exact Or.inl w
            · by_cases c4 : tg (sgT τ3) = 4
              · exact Or.inr (Or.inr ⟨by omega, c4, hasRel_hi g7 n20 sg2⟩)
              · right; left
                have h3 : ¬ tg (sgT τ3) = 3 := fun q => (sgT_20 (τ := τ3)).2 (tg_3 q)
                omega
            · omega
          · exact ((fy1.trans g11).at w3 (by have := k11.nx; have := q5.nx; omega)).mono rfl (by omega) (by omega)
      · rw [if_neg cr]
        right
        refine ⟨y1, s1, a1, τ1, u1, m1, lo1, l1, P1, rfl, k2, k3, k4, k5, k6, ⟨fun c hc => ⟨(k7 c hc).1, by have := (k7 c hc).2; omega⟩, hlowP k8 (fun z => ?_)⟩, k9, k10, k11, k12, k13⟩
        rcases sg_cases τ1 with w | w | w | w
        · omega
        · omega
        · omega
        · have : sgT τ1 = 0 := w.2.2.1
          rw [this] at z
          exact absurd z (by decide)
/-- by the depth that is left -/
theorem J_ei (hT : txO T n) (hG : okW G) : ∀ (k : Nat), JN G O T n R A F r (8 - (k : Int)) (fun S _ => lowT 1 S) 1 (fy_ei G k).1 ∧ JN G O T n R A F r (8 - (k : Int)) (fun S _ => lowT 4 S) 3 (fy_ei G k).2 := by
  intro k
  induction k with
  | zero =>
    refine ⟨fun y s τ u m d S l hJ hdm _ => ?_, fun y s τ u m d S l hJ hdm _ => ?_⟩ <;> (have := hJ.2.2.2.2.1; omega)
  | succ k ih =>
    obtain ⟨i1', i2⟩ := ih
    have e : (8 - (k : Int)) = (8 - ((k + 1 : Nat) : Int)) + 1 := by omega
    rw [e] at i1' i2
    have hone := J_one hT hG (J_sum hT (J_term hT (J_unit hT hG (rO := (fy_ei G k).2) i1'))) i2
    exact ⟨J_either hT hG (J_both hT hG hone), hone⟩
end M7

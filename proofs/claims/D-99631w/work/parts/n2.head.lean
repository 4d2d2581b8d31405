/-! LAYER 3, the lines: the head of a line, by its word (printed by tools/gen_n2.py) -/
set_option maxRecDepth 100000
section N2
variable {G : ai_G} {T : Int → Int} {n : Int} {N0 R A F r : Nat} {O : Nat → Nat} {y : yS} {s : mS} {τ : Tk} {ν : Lv} {bd ld : Nat → Nat}
/-- the line is counted, its word taken -/
theorem hd_next (hT : txO T n) (h : LZ G T n N0 R A F r O y s τ ν bd ld) (hL : vN ν 10 ≤ 1900) (h1 : tS τ = 1) : ∃ y1 s1, wI 1 10 y r (iI (vN ν 10 + 1)) = some (sF y r 10 (iI (vN ν 10 + 1))) ∧ (RB T n R A F r (sF y r 10 (iI (vN ν 10 + 1))) ∧ CT (sF y r 10 (iI (vN ν 10 + 1))) R τ ∧ oldY G (sF y r 10 (iI (vN ν 10 + 1)))) ∧ fy_Reader_next G (sF y r 10 (iI (vN ν 10 + 1))) R = some y1 ∧ fm_token s = some s1 ∧ LZ G T n N0 R A F r O y1 s1 (tk T n (tE τ)) (upN (vN ν) 10 (vN ν 10 + 1), vV ν, vW ν, vH ν) bd ld ∧ kpY N0 F 0 0 y y1 ∧ fr [4, 6, 7, 8, 100] [] s s1 := by
  have hw := h.2.2.2.2.2.2
  have hm := h.2.2.2.2.2.1
  obtain ⟨⟨w1, w2, w3, w4⟩, w5⟩ := hw
  obtain ⟨k1, k2, k3⟩ := h.set (K := []) (J := []) (k := 10) (by omega) (by omega) (vN ν 10 + 1) fr.refl rfl rfl hm ⟨⟨w1, w2, ⟨(by have := w3.1; show 0 ≤ vN ν 10 + 1; omega), (by show vN ν 10 + 1 ≤ 2000; omega)⟩, w4⟩, w5⟩
  obtain ⟨y1, s1, j1, j2, j3, j4, j5⟩ := k2.adv hT (by omega)
  exact ⟨y1, s1, k1, ⟨k2.1.1, k2.1.2.1, k2.2.2.1⟩, j1, j2, j3, (k3.trans j4).mono (by omega) (by omega), j5⟩
theorem hd_water (hT : txO T n) (hG : okW G) (h : LZ G T n N0 R A F r O y s τ ν bd ld) (hL : vN ν 10 ≤ 1900) (h16 : vN ν 16 = if vN ν 10 = 0 then 0 else 1) (hw : isW τ W_water) : (vN ν 10 = 0 → ∃ y1 s1, fm_token s = some s1 ∧ LZ G T n N0 R A F r O y1 s1 (tk T n (tE τ)) (upN (vN ν) 10 (vN ν 10 + 1), vV ν, vW ν, vH ν) bd ld ∧ kpY N0 F 0 0 y y1 ∧ fr [4, 6, 7, 8, 100] [] s s1 ∧ fy_Reader_line G y R = ((gR 8 3 y1 R).bind fun x36 => (ck 8 y1 R).bind fun _ => (fy_Reader_number G y1 R 1 8).bind fun p43 => Sum.elim (fun q43 => some (.inl q43, p43.2)) (fun v43 => (wI 1 8 p43.2 x36 v43).bind fun s46 => (gR 8 3 s46 R).bind fun x50 => (cst G 8).bind fun x54 => (ck 8 s46 R).bind fun _ => (fy_Reader_after G s46 R x54 1 6).bind fun p60 => Sum.elim (fun q60 => some (.inl q60, p60.2)) (fun v60 => (wI 1 9 p60.2 x50 v60).bind fun s63 => some (.inr (), s63)) p60.1) p43.1) ∧ fm_readLine s = ((fm_readWater s).bind fun p => fm_readLine_j235 p)) ∧ (¬ (vN ν 10 = 0) → fy_Reader_line G y R = some (.inl F, wrY y F (fkT τ) (tP τ)) ∧ fm_readLine s = fm_readLine_j230 s) := by
  have t0 := h.1.1.1.1
  have hwf := h.2.2.2.2.2.2.1
  obtain ⟨hm38, hm39, hm40, hm41, hm42, hm43, hm44, hm45, hm51, hm52, hm53, hm24, hm20⟩ := h.2.2.2.2.2.1.1
  have eR : gR 8 3 y R = some r := gR_ok t0 h.1.1.2.1.2.2.2
  have hC := h.2.2.2.1
  have tr := hC.1.1
  obtain ⟨a0, g0, q0⟩ := hG.2.2.1 0 (by omega)
  have E0 := c_isW hT hG h.2.2.1 h.1.1 h.1.2.1 h.1.2.2 q0 (cst_lt _ (by decide))
  have V0 := m_isW (w := W_water) h.2.2.2.2.1.2.1 h.1.2.2
  rw [if_pos (show isW τ (cstW.getD 0 []) from hw)] at E0
  rw [if_pos hw] at V0
  obtain ⟨a1, g1, q1⟩ := hG.2.2.1 1 (by omega)
  have E1 := c_isW hT hG h.2.2.1 h.1.1 h.1.2.1 h.1.2.2 q1 (cst_lt _ (by decide))
  have V1 := m_isW (w := W_current) h.2.2.2.2.1.2.1 h.1.2.2
  have n1 : ¬ isW τ W_current := isW_ne hw (by decide)
  rw [if_neg (show ¬ isW τ (cstW.getD 1 []) from n1)] at E1
  rw [if_neg n1] at V1
  obtain ⟨a2, g2, q2⟩ := hG.2.2.1 2 (by omega)
  have E2 := c_isW hT hG h.2.2.1 h.1.1 h.1.2.1 h.1.2.2 q2 (cst_lt _ (by decide))
  have V2 := m_isW (w := W_iron) h.2.2.2.2.1.2.1 h.1.2.2
  have n2 : ¬ isW τ W_iron := isW_ne hw (by decide)
  rw [if_neg (show ¬ isW τ (cstW.getD 2 []) from n2)] at E2
  rw [if_neg n2] at V2
  obtain ⟨a3, g3, q3⟩ := hG.2.2.1 3 (by omega)
  have E3 := c_isW hT hG h.2.2.1 h.1.1 h.1.2.1 h.1.2.2 q3 (cst_lt _ (by decide))
  have V3 := m_isW (w := W_board) h.2.2.2.2.1.2.1 h.1.2.2
  have n3 : ¬ isW τ W_board := isW_ne hw (by decide)
  rw [if_neg (show ¬ isW τ (cstW.getD 3 []) from n3)] at E3
  rw [if_neg n3] at V3
  obtain ⟨a4, g4, q4⟩ := hG.2.2.1 4 (by omega)
  have E4 := c_isW hT hG h.2.2.1 h.1.1 h.1.2.1 h.1.2.2 q4 (cst_lt _ (by decide))
  have V4 := m_isW (w := W_load) h.2.2.2.2.1.2.1 h.1.2.2
  have n4 : ¬ isW τ W_load := isW_ne hw (by decide)
  rw [if_neg (show ¬ isW τ (cstW.getD 4 []) from n4)] at E4
  rw [if_neg n4] at V4
  obtain ⟨a5, g5, q5⟩ := hG.2.2.1 5 (by omega)
  have E5 := c_isW hT hG h.2.2.1 h.1.1 h.1.2.1 h.1.2.2 q5 (cst_lt _ (by decide))
  have V5 := m_isW (w := W_heat) h.2.2.2.2.1.2.1 h.1.2.2
  have n5 : ¬ isW τ W_heat := isW_ne hw (by decide)
  rw [if_neg (show ¬ isW τ (cstW.getD 5 []) from n5)] at E5
  rw [if_neg n5] at V5
  obtain ⟨a6, g6, q6⟩ := hG.2.2.1 6 (by omega)
  have E6 := c_isW hT hG h.2.2.1 h.1.1 h.1.2.1 h.1.2.2 q6 (cst_lt _ (by decide))
  have V6 := m_isW (w := W_flood) h.2.2.2.2.1.2.1 h.1.2.2
  have n6 : ¬ isW τ W_flood := isW_ne hw (by decide)
  rw [if_neg (show ¬ isW τ (cstW.getD 6 []) from n6)] at E6
  rw [if_neg n6] at V6
  obtain ⟨a7, g7, q7⟩ := hG.2.2.1 7 (by omega)
  have E7 := c_isW hT hG h.2.2.1 h.1.1 h.1.2.1 h.1.2.2 q7 (cst_lt _ (by decide))
  have V7 := m_isW (w := W_draw) h.2.2.2.2.1.2.1 h.1.2.2
  have n7 : ¬ isW τ W_draw := isW_ne hw (by decide)
  rw [if_neg (show ¬ isW τ (cstW.getD 7 []) from n7)] at E7
  rw [if_neg n7] at V7
  have ec : fy_Reader_canLine G y R = some (if vN ν 10 = 0 then iI 1 else iI 0) := by
    unfold fy_Reader_canLine
    rw [g0, obs, ck_ok t0, obs, E0, obs, if_neg (by decide)]
    simp (disch := omega) only [eR, gI_ok tr, hC.2.2.2.1 10 (by omega) (by omega), iI_lit, iI_add, iI_sub, iI_mul, iI_neg, obs, if_true, if_false, Int.reduceEq, Int.reduceLE, Int.reduceLT, Int.reduceAdd, Int.reduceSub, Int.reduceMul, Int.reduceNeg, Nat.reduceEqDiff, iI_le, iI_lt, iI_eq]
    by_cases z : vN ν 10 = 0
    · rw [if_pos z, if_pos z]
    · rw [if_neg z, if_neg z]
  refine ⟨fun z => ?_, fun z => ⟨?_, ?_⟩⟩
  · obtain ⟨y1, s1, k1, ⟨k2, k3, k4⟩, k5, k6, k7, k8, k9⟩ := hd_next hT h hL hw.1
    refine ⟨y1, s1, k6, k7, k8, k9, ?_, ?_⟩
    · generalize hy2 : sF y r 10 (iI (vN ν 10 + 1)) = y2 at *
      have t2 := k2.1.1
      have C0 := c_comes (τ := τ) hT hG k4 k2 k3 h.1.2.2 q0 (cst_lt _ (by decide))
      obtain ⟨z1, u1, u2, u3⟩ := C0.1 (show isW τ (cstW.getD 0 []) from hw)
      have D0 : fy_Reader_comes G y2 R a0 = some (1, y1) := by
        unfold fy_Reader_comes
        have E := c_isW (τ := τ) hT hG k4 k2 k3 h.1.2.2 q0 (cst_lt _ (by decide))
        rw [if_pos (show isW τ (cstW.getD 0 []) from hw)] at E
        rw [ck_ok t2, obs, E, obs, if_neg (by decide), obs, k5, obs]
        rfl
      unfold fy_Reader_line
      rw [ck_ok t0, obs, ec, if_pos z, obs, if_neg (by decide), eR, obs, gI_ok tr, hC.2.2.2.1 10 (by omega) (by omega), obs, i1, iI_add, k1, obs]
      rw [g0, obs, ck_ok t2, obs, D0, obs]
      simp only
      rw [if_neg (by decide)]
      all_goals rfl
    · unfold fm_readLine
      rw [cW_water, V0, obs, if_neg (by decide)]
      simp (disch := omega) only [hm51, pI, iI_lit, iI_add, iI_sub, iI_mul, iI_neg, obs, if_true, if_false, Int.reduceEq, Int.reduceLE, Int.reduceLT, Int.reduceAdd, Int.reduceSub, Int.reduceMul, Int.reduceNeg, Nat.reduceEqDiff, iI_le, iI_lt, iI_eq]
      rw [if_pos (by rw [h16, if_pos z])]
  · have kk := c_wrong (G := G) h.1.1 h.1.2.1
    have kw := ck_wr h.1.1 (fkT τ) (tP τ)
    unfold fy_Reader_line
    rw [ck_ok t0, obs, ec, if_neg z, obs, if_pos (show iI 0 = (0 : Int32) from rfl), obs, kk, obs, kw, obs]
  · unfold fm_readLine
    rw [cW_water, V0, obs, if_neg (by decide)]
    simp (disch := omega) only [hm51, iI_lit, iI_add, iI_sub, iI_mul, iI_neg, obs, if_true, if_false, Int.reduceEq, Int.reduceLE, Int.reduceLT, Int.reduceAdd, Int.reduceSub, Int.reduceMul, Int.reduceNeg, Nat.reduceEqDiff, iI_le, iI_lt, iI_eq]
    rw [if_neg (by rw [h16, if_neg z]; omega)]
    unfold fm_readLine_j24
    rw [cW_current, V1, obs, if_pos rfl]
    unfold fm_readLine_j50
    rw [cW_iron, V2, obs, if_pos rfl]
    unfold fm_readLine_j76
    rw [cW_board, V3, obs, if_pos rfl]
    unfold fm_readLine_j101
    rw [cW_load, V4, obs, if_pos rfl]
    unfold fm_readLine_j127
    rw [cW_heat, V5, obs, if_pos rfl]
    unfold fm_readLine_j151
    rw [cW_flood, V6, obs, if_pos rfl]
    unfold fm_readLine_j190
    rw [cW_draw, V7, obs, if_pos rfl]
theorem hd_current (hT : txO T n) (hG : okW G) (h : LZ G T n N0 R A F r O y s τ ν bd ld) (hL : vN ν 10 ≤ 1900) (h16 : vN ν 16 = if vN ν 10 = 0 then 0 else 1) (hw : isW τ W_current) : (vN ν 11 < 16 → ∃ y1 s1, fm_token s = some s1 ∧ LZ G T n N0 R A F r O y1 s1 (tk T n (tE τ)) (upN (vN ν) 10 (vN ν 10 + 1), vV ν, vW ν, vH ν) bd ld ∧ kpY N0 F 0 0 y y1 ∧ fr [4, 6, 7, 8, 100] [] s s1 ∧ fy_Reader_line G y R = ((ck 8 y1 R).bind fun _ => (fy_Reader_current G y1 R).bind fun p80 => Sum.elim (fun q80 => some (.inl q80, p80.2)) (fun _ => some (.inr (), p80.2)) p80.1) ∧ fm_readLine s = ((fm_readCurrent s).bind fun p => fm_readLine_j235 p)) ∧ (¬ (vN ν 11 < 16) → fy_Reader_line G y R = some (.inl F, wrY y F (fkT τ) (tP τ)) ∧ fm_readLine s = fm_readLine_j230 s) := by
  have t0 := h.1.1.1.1
  have hwf := h.2.2.2.2.2.2.1
  obtain ⟨hm38, hm39, hm40, hm41, hm42, hm43, hm44, hm45, hm51, hm52, hm53, hm24, hm20⟩ := h.2.2.2.2.2.1.1
  have eR : gR 8 3 y R = some r := gR_ok t0 h.1.1.2.1.2.2.2
  have hC := h.2.2.2.1
  have tr := hC.1.1
  obtain ⟨a0, g0, q0⟩ := hG.2.2.1 0 (by omega)
  have E0 := c_isW hT hG h.2.2.1 h.1.1 h.1.2.1 h.1.2.2 q0 (cst_lt _ (by decide))
  have V0 := m_isW (w := W_water) h.2.2.2.2.1.2.1 h.1.2.2
  have n0 : ¬ isW τ W_water := isW_ne hw (by decide)
  rw [if_neg (show ¬ isW τ (cstW.getD 0 []) from n0)] at E0
  rw [if_neg n0] at V0
  obtain ⟨a1, g1, q1⟩ := hG.2.2.1 1 (by omega)
  have E1 := c_isW hT hG h.2.2.1 h.1.1 h.1.2.1 h.1.2.2 q1 (cst_lt _ (by decide))
  have V1 := m_isW (w := W_current) h.2.2.2.2.1.2.1 h.1.2.2
  rw [if_pos (show isW τ (cstW.getD 1 []) from hw)] at E1
  rw [if_pos hw] at V1
  obtain ⟨a2, g2, q2⟩ := hG.2.2.1 2 (by omega)
  have E2 := c_isW hT hG h.2.2.1 h.1.1 h.1.2.1 h.1.2.2 q2 (cst_lt _ (by decide))
  have V2 := m_isW (w := W_iron) h.2.2.2.2.1.2.1 h.1.2.2
  have n2 : ¬ isW τ W_iron := isW_ne hw (by decide)
  rw [if_neg (show ¬ isW τ (cstW.getD 2 []) from n2)] at E2
  rw [if_neg n2] at V2
  obtain ⟨a3, g3, q3⟩ := hG.2.2.1 3 (by omega)
  have E3 := c_isW hT hG h.2.2.1 h.1.1 h.1.2.1 h.1.2.2 q3 (cst_lt _ (by decide))
  have V3 := m_isW (w := W_board) h.2.2.2.2.1.2.1 h.1.2.2
  have n3 : ¬ isW τ W_board := isW_ne hw (by decide)
  rw [if_neg (show ¬ isW τ (cstW.getD 3 []) from n3)] at E3
  rw [if_neg n3] at V3
  obtain ⟨a4, g4, q4⟩ := hG.2.2.1 4 (by omega)
  have E4 := c_isW hT hG h.2.2.1 h.1.1 h.1.2.1 h.1.2.2 q4 (cst_lt _ (by decide))
  have V4 := m_isW (w := W_load) h.2.2.2.2.1.2.1 h.1.2.2
  have n4 : ¬ isW τ W_load := isW_ne hw (by decide)
  rw [if_neg (show ¬ isW τ (cstW.getD 4 []) from n4)] at E4
  rw [if_neg n4] at V4
  obtain ⟨a5, g5, q5⟩ := hG.2.2.1 5 (by omega)
  have E5 := c_isW hT hG h.2.2.1 h.1.1 h.1.2.1 h.1.2.2 q5 (cst_lt _ (by decide))
  have V5 := m_isW (w := W_heat) h.2.2.2.2.1.2.1 h.1.2.2
  have n5 : ¬ isW τ W_heat := isW_ne hw (by decide)
  rw [if_neg (show ¬ isW τ (cstW.getD 5 []) from n5)] at E5
  rw [if_neg n5] at V5
  obtain ⟨a6, g6, q6⟩ := hG.2.2.1 6 (by omega)
  have E6 := c_isW hT hG h.2.2.1 h.1.1 h.1.2.1 h.1.2.2 q6 (cst_lt _ (by decide))
  have V6 := m_isW (w := W_flood) h.2.2.2.2.1.2.1 h.1.2.2
  have n6 : ¬ isW τ W_flood := isW_ne hw (by decide)
  rw [if_neg (show ¬ isW τ (cstW.getD 6 []) from n6)] at E6
  rw [if_neg n6] at V6
  obtain ⟨a7, g7, q7⟩ := hG.2.2.1 7 (by omega)
  have E7 := c_isW hT hG h.2.2.1 h.1.1 h.1.2.1 h.1.2.2 q7 (cst_lt _ (by decide))
  have V7 := m_isW (w := W_draw) h.2.2.2.2.1.2.1 h.1.2.2
  have n7 : ¬ isW τ W_draw := isW_ne hw (by decide)
  rw [if_neg (show ¬ isW τ (cstW.getD 7 []) from n7)] at E7
  rw [if_neg n7] at V7
  have ec : fy_Reader_canLine G y R = some (if vN ν 11 < 16 then iI 1 else iI 0) := by
    unfold fy_Reader_canLine
    rw [g0, obs, ck_ok t0, obs, E0, obs, if_pos rfl]
    rw [g1, obs, obs, E1, obs, if_neg (by decide)]
    simp (disch := omega) only [eR, gI_ok tr, hC.2.2.2.1 11 (by omega) (by omega), iI_lit, iI_add, iI_sub, iI_mul, iI_neg, obs, if_true, if_false, Int.reduceEq, Int.reduceLE, Int.reduceLT, Int.reduceAdd, Int.reduceSub, Int.reduceMul, Int.reduceNeg, Nat.reduceEqDiff, iI_le, iI_lt, iI_eq]
    by_cases z : vN ν 11 < 16
    · rw [if_neg (by omega), if_pos z]
    · rw [if_pos (by omega), if_neg z]
  refine ⟨fun z => ?_, fun z => ⟨?_, ?_⟩⟩
  · obtain ⟨y1, s1, k1, ⟨k2, k3, k4⟩, k5, k6, k7, k8, k9⟩ := hd_next hT h hL hw.1
    refine ⟨y1, s1, k6, k7, k8, k9, ?_, ?_⟩
    · generalize hy2 : sF y r 10 (iI (vN ν 10 + 1)) = y2 at *
      have t2 := k2.1.1
      have C0 := c_comes (τ := τ) hT hG k4 k2 k3 h.1.2.2 q0 (cst_lt _ (by decide))
      have D0 := C0.2 (show ¬ isW τ (cstW.getD 0 []) from n0)
      have C1 := c_comes (τ := τ) hT hG k4 k2 k3 h.1.2.2 q1 (cst_lt _ (by decide))
      obtain ⟨z1, u1, u2, u3⟩ := C1.1 (show isW τ (cstW.getD 1 []) from hw)
      have D1 : fy_Reader_comes G y2 R a1 = some (1, y1) := by
        unfold fy_Reader_comes
        have E := c_isW (τ := τ) hT hG k4 k2 k3 h.1.2.2 q1 (cst_lt _ (by decide))
        rw [if_pos (show isW τ (cstW.getD 1 []) from hw)] at E
        rw [ck_ok t2, obs, E, obs, if_neg (by decide), obs, k5, obs]
        rfl
      unfold fy_Reader_line
      rw [ck_ok t0, obs, ec, if_pos z, obs, if_neg (by decide), eR, obs, gI_ok tr, hC.2.2.2.1 10 (by omega) (by omega), obs, i1, iI_add, k1, obs]
      rw [g0, obs, ck_ok t2, obs, D0, obs]
      simp only [if_true]
      rw [g1, obs, ck_ok t2, obs, D1, obs]
      simp only
      rw [if_neg (by decide)]
      all_goals rfl
    · unfold fm_readLine
      rw [cW_water, V0, obs, if_pos rfl]
      unfold fm_readLine_j24
      rw [cW_current, V1, obs, if_neg (by decide)]
      simp (disch := omega) only [hm40, pI, iI_lit, iI_add, iI_sub, iI_mul, iI_neg, obs, if_true, if_false, Int.reduceEq, Int.reduceLE, Int.reduceLT, Int.reduceAdd, Int.reduceSub, Int.reduceMul, Int.reduceNeg, Nat.reduceEqDiff, iI_le, iI_lt, iI_eq]
      rw [if_neg (by omega)]
  · have kk := c_wrong (G := G) h.1.1 h.1.2.1
    have kw := ck_wr h.1.1 (fkT τ) (tP τ)
    unfold fy_Reader_line
    rw [ck_ok t0, obs, ec, if_neg z, obs, if_pos (show iI 0 = (0 : Int32) from rfl), obs, kk, obs, kw, obs]
  · unfold fm_readLine
    rw [cW_water, V0, obs, if_pos rfl]
    unfold fm_readLine_j24
    rw [cW_current, V1, obs, if_neg (by decide)]
    simp (disch := omega) only [hm40, iI_lit, iI_add, iI_sub, iI_mul, iI_neg, obs, if_true, if_false, Int.reduceEq, Int.reduceLE, Int.reduceLT, Int.reduceAdd, Int.reduceSub, Int.reduceMul, Int.reduceNeg, Nat.reduceEqDiff, iI_le, iI_lt, iI_eq]
    rw [if_pos (by omega)]
    unfold fm_readLine_j50
    rw [cW_iron, V2, obs, if_pos rfl]
    unfold fm_readLine_j76
    rw [cW_board, V3, obs, if_pos rfl]
    unfold fm_readLine_j101
    rw [cW_load, V4, obs, if_pos rfl]
    unfold fm_readLine_j127
    rw [cW_heat, V5, obs, if_pos rfl]
    unfold fm_readLine_j151
    rw [cW_flood, V6, obs, if_pos rfl]
    unfold fm_readLine_j190
    rw [cW_draw, V7, obs, if_pos rfl]
theorem hd_iron (hT : txO T n) (hG : okW G) (h : LZ G T n N0 R A F r O y s τ ν bd ld) (hL : vN ν 10 ≤ 1900) (h16 : vN ν 16 = if vN ν 10 = 0 then 0 else 1) (hw : isW τ W_iron) : (vN ν 12 < 6 → ∃ y1 s1, fm_token s = some s1 ∧ LZ G T n N0 R A F r O y1 s1 (tk T n (tE τ)) (upN (vN ν) 10 (vN ν 10 + 1), vV ν, vW ν, vH ν) bd ld ∧ kpY N0 F 0 0 y y1 ∧ fr [4, 6, 7, 8, 100] [] s s1 ∧ fy_Reader_line G y R = ((ck 8 y1 R).bind fun _ => (fy_Reader_iron G y1 R).bind fun p97 => Sum.elim (fun q97 => some (.inl q97, p97.2)) (fun _ => some (.inr (), p97.2)) p97.1) ∧ fm_readLine s = ((fm_readIron s).bind fun p => fm_readLine_j235 p)) ∧ (¬ (vN ν 12 < 6) → fy_Reader_line G y R = some (.inl F, wrY y F (fkT τ) (tP τ)) ∧ fm_readLine s = fm_readLine_j230 s) := by
  have t0 := h.1.1.1.1
  have hwf := h.2.2.2.2.2.2.1
  obtain ⟨hm38, hm39, hm40, hm41, hm42, hm43, hm44, hm45, hm51, hm52, hm53, hm24, hm20⟩ := h.2.2.2.2.2.1.1
  have eR : gR 8 3 y R = some r := gR_ok t0 h.1.1.2.1.2.2.2
  have hC := h.2.2.2.1
  have tr := hC.1.1
  obtain ⟨a0, g0, q0⟩ := hG.2.2.1 0 (by omega)
  have E0 := c_isW hT hG h.2.2.1 h.1.1 h.1.2.1 h.1.2.2 q0 (cst_lt _ (by decide))
  have V0 := m_isW (w := W_water) h.2.2.2.2.1.2.1 h.1.2.2
  have n0 : ¬ isW τ W_water := isW_ne hw (by decide)
  rw [if_neg (show ¬ isW τ (cstW.getD 0 []) from n0)] at E0
  rw [if_neg n0] at V0
  obtain ⟨a1, g1, q1⟩ := hG.2.2.1 1 (by omega)
  have E1 := c_isW hT hG h.2.2.1 h.1.1 h.1.2.1 h.1.2.2 q1 (cst_lt _ (by decide))
  have V1 := m_isW (w := W_current) h.2.2.2.2.1.2.1 h.1.2.2
  have n1 : ¬ isW τ W_current := isW_ne hw (by decide)
  rw [if_neg (show ¬ isW τ (cstW.getD 1 []) from n1)] at E1
  rw [if_neg n1] at V1
  obtain ⟨a2, g2, q2⟩ := hG.2.2.1 2 (by omega)
  have E2 := c_isW hT hG h.2.2.1 h.1.1 h.1.2.1 h.1.2.2 q2 (cst_lt _ (by decide))
  have V2 := m_isW (w := W_iron) h.2.2.2.2.1.2.1 h.1.2.2
  rw [if_pos (show isW τ (cstW.getD 2 []) from hw)] at E2
  rw [if_pos hw] at V2
  obtain ⟨a3, g3, q3⟩ := hG.2.2.1 3 (by omega)
  have E3 := c_isW hT hG h.2.2.1 h.1.1 h.1.2.1 h.1.2.2 q3 (cst_lt _ (by decide))
  have V3 := m_isW (w := W_board) h.2.2.2.2.1.2.1 h.1.2.2
  have n3 : ¬ isW τ W_board := isW_ne hw (by decide)
  rw [if_neg (show ¬ isW τ (cstW.getD 3 []) from n3)] at E3
  rw [if_neg n3] at V3
  obtain ⟨a4, g4, q4⟩ := hG.2.2.1 4 (by omega)
  have E4 := c_isW hT hG h.2.2.1 h.1.1 h.1.2.1 h.1.2.2 q4 (cst_lt _ (by decide))
  have V4 := m_isW (w := W_load) h.2.2.2.2.1.2.1 h.1.2.2
  have n4 : ¬ isW τ W_load := isW_ne hw (by decide)
  rw [if_neg (show ¬ isW τ (cstW.getD 4 []) from n4)] at E4
  rw [if_neg n4] at V4
  obtain ⟨a5, g5, q5⟩ := hG.2.2.1 5 (by omega)
  have E5 := c_isW hT hG h.2.2.1 h.1.1 h.1.2.1 h.1.2.2 q5 (cst_lt _ (by decide))
  have V5 := m_isW (w := W_heat) h.2.2.2.2.1.2.1 h.1.2.2
  have n5 : ¬ isW τ W_heat := isW_ne hw (by decide)
  rw [if_neg (show ¬ isW τ (cstW.getD 5 []) from n5)] at E5
  rw [if_neg n5] at V5
  obtain ⟨a6, g6, q6⟩ := hG.2.2.1 6 (by omega)
  have E6 := c_isW hT hG h.2.2.1 h.1.1 h.1.2.1 h.1.2.2 q6 (cst_lt _ (by decide))
  have V6 := m_isW (w := W_flood) h.2.2.2.2.1.2.1 h.1.2.2
  have n6 : ¬ isW τ W_flood := isW_ne hw (by decide)
  rw [if_neg (show ¬ isW τ (cstW.getD 6 []) from n6)] at E6
  rw [if_neg n6] at V6
  obtain ⟨a7, g7, q7⟩ := hG.2.2.1 7 (by omega)
  have E7 := c_isW hT hG h.2.2.1 h.1.1 h.1.2.1 h.1.2.2 q7 (cst_lt _ (by decide))
  have V7 := m_isW (w := W_draw) h.2.2.2.2.1.2.1 h.1.2.2
  have n7 : ¬ isW τ W_draw := isW_ne hw (by decide)
  rw [if_neg (show ¬ isW τ (cstW.getD 7 []) from n7)] at E7
  rw [if_neg n7] at V7
  have ec : fy_Reader_canLine G y R = some (if vN ν 12 < 6 then iI 1 else iI 0) := by
    unfold fy_Reader_canLine
    rw [g0, obs, ck_ok t0, obs, E0, obs, if_pos rfl]
    rw [g1, obs, obs, E1, obs, if_pos rfl]
    rw [g2, obs, obs, E2, obs, if_neg (by decide)]
    simp (disch := omega) only [eR, gI_ok tr, hC.2.2.2.1 12 (by omega) (by omega), iI_lit, iI_add, iI_sub, iI_mul, iI_neg, obs, if_true, if_false, Int.reduceEq, Int.reduceLE, Int.reduceLT, Int.reduceAdd, Int.reduceSub, Int.reduceMul, Int.reduceNeg, Nat.reduceEqDiff, iI_le, iI_lt, iI_eq]
    by_cases z : vN ν 12 < 6
    · rw [if_neg (by omega), if_pos z]
    · rw [if_pos (by omega), if_neg z]
  refine ⟨fun z => ?_, fun z => ⟨?_, ?_⟩⟩
  · obtain ⟨y1, s1, k1, ⟨k2, k3, k4⟩, k5, k6, k7, k8, k9⟩ := hd_next hT h hL hw.1
    refine ⟨y1, s1, k6, k7, k8, k9, ?_, ?_⟩
    · generalize hy2 : sF y r 10 (iI (vN ν 10 + 1)) = y2 at *
      have t2 := k2.1.1
      have C0 := c_comes (τ := τ) hT hG k4 k2 k3 h.1.2.2 q0 (cst_lt _ (by decide))
      have D0 := C0.2 (show ¬ isW τ (cstW.getD 0 []) from n0)
      have C1 := c_comes (τ := τ) hT hG k4 k2 k3 h.1.2.2 q1 (cst_lt _ (by decide))
      have D1 := C1.2 (show ¬ isW τ (cstW.getD 1 []) from n1)
      have C2 := c_comes (τ := τ) hT hG k4 k2 k3 h.1.2.2 q2 (cst_lt _ (by decide))
      obtain ⟨z1, u1, u2, u3⟩ := C2.1 (show isW τ (cstW.getD 2 []) from hw)
      have D2 : fy_Reader_comes G y2 R a2 = some (1, y1) := by
        unfold fy_Reader_comes
        have E := c_isW (τ := τ) hT hG k4 k2 k3 h.1.2.2 q2 (cst_lt _ (by decide))
        rw [if_pos (show isW τ (cstW.getD 2 []) from hw)] at E
        rw [ck_ok t2, obs, E, obs, if_neg (by decide), obs, k5, obs]
        rfl
      unfold fy_Reader_line
      rw [ck_ok t0, obs, ec, if_pos z, obs, if_neg (by decide), eR, obs, gI_ok tr, hC.2.2.2.1 10 (by omega) (by omega), obs, i1, iI_add, k1, obs]
      rw [g0, obs, ck_ok t2, obs, D0, obs]
      simp only [if_true]
      rw [g1, obs, ck_ok t2, obs, D1, obs]
      simp only [if_true]
      rw [g2, obs, ck_ok t2, obs, D2, obs]
      simp only
      rw [if_neg (by decide)]
      all_goals rfl
    · unfold fm_readLine
      rw [cW_water, V0, obs, if_pos rfl]
      unfold fm_readLine_j24
      rw [cW_current, V1, obs, if_pos rfl]
      unfold fm_readLine_j50
      rw [cW_iron, V2, obs, if_neg (by decide)]
      simp (disch := omega) only [hm41, pI, iI_lit, iI_add, iI_sub, iI_mul, iI_neg, obs, if_true, if_false, Int.reduceEq, Int.reduceLE, Int.reduceLT, Int.reduceAdd, Int.reduceSub, Int.reduceMul, Int.reduceNeg, Nat.reduceEqDiff, iI_le, iI_lt, iI_eq]
      rw [if_neg (by omega)]
  · have kk := c_wrong (G := G) h.1.1 h.1.2.1
    have kw := ck_wr h.1.1 (fkT τ) (tP τ)
    unfold fy_Reader_line
    rw [ck_ok t0, obs, ec, if_neg z, obs, if_pos (show iI 0 = (0 : Int32) from rfl), obs, kk, obs, kw, obs]
  · unfold fm_readLine
    rw [cW_water, V0, obs, if_pos rfl]
    unfold fm_readLine_j24
    rw [cW_current, V1, obs, if_pos rfl]
    unfold fm_readLine_j50
    rw [cW_iron, V2, obs, if_neg (by decide)]
    simp (disch := omega) only [hm41, iI_lit, iI_add, iI_sub, iI_mul, iI_neg, obs, if_true, if_false, Int.reduceEq, Int.reduceLE, Int.reduceLT, Int.reduceAdd, Int.reduceSub, Int.reduceMul, Int.reduceNeg, Nat.reduceEqDiff, iI_le, iI_lt, iI_eq]
    rw [if_pos (by omega)]
    unfold fm_readLine_j76
    rw [cW_board, V3, obs, if_pos rfl]
    unfold fm_readLine_j101
    rw [cW_load, V4, obs, if_pos rfl]
    unfold fm_readLine_j127
    rw [cW_heat, V5, obs, if_pos rfl]
    unfold fm_readLine_j151
    rw [cW_flood, V6, obs, if_pos rfl]
    unfold fm_readLine_j190
    rw [cW_draw, V7, obs, if_pos rfl]
theorem hd_board (hT : txO T n) (hG : okW G) (h : LZ G T n N0 R A F r O y s τ ν bd ld) (hL : vN ν 10 ≤ 1900) (h16 : vN ν 16 = if vN ν 10 = 0 then 0 else 1) (hw : isW τ W_board) : (vN ν 0 < 4 → ∃ y1 s1, fm_token s = some s1 ∧ LZ G T n N0 R A F r O y1 s1 (tk T n (tE τ)) (upN (vN ν) 10 (vN ν 10 + 1), vV ν, vW ν, vH ν) bd ld ∧ kpY N0 F 0 0 y y1 ∧ fr [4, 6, 7, 8, 100] [] s s1 ∧ fy_Reader_line G y R = ((ck 8 y1 R).bind fun _ => (fy_Reader_board G y1 R).bind fun p114 => Sum.elim (fun q114 => some (.inl q114, p114.2)) (fun _ => some (.inr (), p114.2)) p114.1) ∧ fm_readLine s = ((fm_readBoard s).bind fun p => fm_readLine_j235 p)) ∧ (¬ (vN ν 0 < 4) → fy_Reader_line G y R = some (.inl F, wrY y F (fkT τ) (tP τ)) ∧ fm_readLine s = fm_readLine_j230 s) := by
  have t0 := h.1.1.1.1
  have hwf := h.2.2.2.2.2.2.1
  obtain ⟨hm38, hm39, hm40, hm41, hm42, hm43, hm44, hm45, hm51, hm52, hm53, hm24, hm20⟩ := h.2.2.2.2.2.1.1
  have eR : gR 8 3 y R = some r := gR_ok t0 h.1.1.2.1.2.2.2
  have hC := h.2.2.2.1
  have tr := hC.1.1
  obtain ⟨a0, g0, q0⟩ := hG.2.2.1 0 (by omega)
  have E0 := c_isW hT hG h.2.2.1 h.1.1 h.1.2.1 h.1.2.2 q0 (cst_lt _ (by decide))
  have V0 := m_isW (w := W_water) h.2.2.2.2.1.2.1 h.1.2.2
  have n0 : ¬ isW τ W_water := isW_ne hw (by decide)
  rw [if_neg (show ¬ isW τ (cstW.getD 0 []) from n0)] at E0
  rw [if_neg n0] at V0
  obtain ⟨a1, g1, q1⟩ := hG.2.2.1 1 (by omega)
  have E1 := c_isW hT hG h.2.2.1 h.1.1 h.1.2.1 h.1.2.2 q1 (cst_lt _ (by decide))
  have V1 := m_isW (w := W_current) h.2.2.2.2.1.2.1 h.1.2.2
  have n1 : ¬ isW τ W_current := isW_ne hw (by decide)
  rw [if_neg (show ¬ isW τ (cstW.getD 1 []) from n1)] at E1
  rw [if_neg n1] at V1
  obtain ⟨a2, g2, q2⟩ := hG.2.2.1 2 (by omega)
  have E2 := c_isW hT hG h.2.2.1 h.1.1 h.1.2.1 h.1.2.2 q2 (cst_lt _ (by decide))
  have V2 := m_isW (w := W_iron) h.2.2.2.2.1.2.1 h.1.2.2
  have n2 : ¬ isW τ W_iron := isW_ne hw (by decide)
  rw [if_neg (show ¬ isW τ (cstW.getD 2 []) from n2)] at E2
  rw [if_neg n2] at V2
  obtain ⟨a3, g3, q3⟩ := hG.2.2.1 3 (by omega)
  have E3 := c_isW hT hG h.2.2.1 h.1.1 h.1.2.1 h.1.2.2 q3 (cst_lt _ (by decide))
  have V3 := m_isW (w := W_board) h.2.2.2.2.1.2.1 h.1.2.2
  rw [if_pos (show isW τ (cstW.getD 3 []) from hw)] at E3
  rw [if_pos hw] at V3
  obtain ⟨a4, g4, q4⟩ := hG.2.2.1 4 (by omega)
  have E4 := c_isW hT hG h.2.2.1 h.1.1 h.1.2.1 h.1.2.2 q4 (cst_lt _ (by decide))
  have V4 := m_isW (w := W_load) h.2.2.2.2.1.2.1 h.1.2.2
  have n4 : ¬ isW τ W_load := isW_ne hw (by decide)
  rw [if_neg (show ¬ isW τ (cstW.getD 4 []) from n4)] at E4
  rw [if_neg n4] at V4
  obtain ⟨a5, g5, q5⟩ := hG.2.2.1 5 (by omega)
  have E5 := c_isW hT hG h.2.2.1 h.1.1 h.1.2.1 h.1.2.2 q5 (cst_lt _ (by decide))
  have V5 := m_isW (w := W_heat) h.2.2.2.2.1.2.1 h.1.2.2
  have n5 : ¬ isW τ W_heat := isW_ne hw (by decide)
  rw [if_neg (show ¬ isW τ (cstW.getD 5 []) from n5)] at E5
  rw [if_neg n5] at V5
  obtain ⟨a6, g6, q6⟩ := hG.2.2.1 6 (by omega)
  have E6 := c_isW hT hG h.2.2.1 h.1.1 h.1.2.1 h.1.2.2 q6 (cst_lt _ (by decide))
  have V6 := m_isW (w := W_flood) h.2.2.2.2.1.2.1 h.1.2.2
  have n6 : ¬ isW τ W_flood := isW_ne hw (by decide)
  rw [if_neg (show ¬ isW τ (cstW.getD 6 []) from n6)] at E6
  rw [if_neg n6] at V6
  obtain ⟨a7, g7, q7⟩ := hG.2.2.1 7 (by omega)
  have E7 := c_isW hT hG h.2.2.1 h.1.1 h.1.2.1 h.1.2.2 q7 (cst_lt _ (by decide))
  have V7 := m_isW (w := W_draw) h.2.2.2.2.1.2.1 h.1.2.2
  have n7 : ¬ isW τ W_draw := isW_ne hw (by decide)
  rw [if_neg (show ¬ isW τ (cstW.getD 7 []) from n7)] at E7
  rw [if_neg n7] at V7
  have ec : fy_Reader_canLine G y R = some (if vN ν 0 < 4 then iI 1 else iI 0) := by
    unfold fy_Reader_canLine
    rw [g0, obs, ck_ok t0, obs, E0, obs, if_pos rfl]
    rw [g1, obs, obs, E1, obs, if_pos rfl]
    rw [g2, obs, obs, E2, obs, if_pos rfl]
    rw [g3, obs, obs, E3, obs, if_neg (by decide)]
    simp (disch := omega) only [eR, gR_ok tr hC.2.1.1, l_c hC.2.2.2.2.2.1, l_size hC.2.2.2.2.2.1, iI_lit, iI_add, iI_sub, iI_mul, iI_neg, obs, if_true, if_false, Int.reduceEq, Int.reduceLE, Int.reduceLT, Int.reduceAdd, Int.reduceSub, Int.reduceMul, Int.reduceNeg, Nat.reduceEqDiff, iI_le, iI_lt, iI_eq]
    by_cases z : vN ν 0 < 4
    · rw [if_neg (by omega), if_pos z]
    · rw [if_pos (by omega), if_neg z]
  refine ⟨fun z => ?_, fun z => ⟨?_, ?_⟩⟩
  · obtain ⟨y1, s1, k1, ⟨k2, k3, k4⟩, k5, k6, k7, k8, k9⟩ := hd_next hT h hL hw.1
    refine ⟨y1, s1, k6, k7, k8, k9, ?_, ?_⟩
    · generalize hy2 : sF y r 10 (iI (vN ν 10 + 1)) = y2 at *
      have t2 := k2.1.1
      have C0 := c_comes (τ := τ) hT hG k4 k2 k3 h.1.2.2 q0 (cst_lt _ (by decide))
      have D0 := C0.2 (show ¬ isW τ (cstW.getD 0 []) from n0)
      have C1 := c_comes (τ := τ) hT hG k4 k2 k3 h.1.2.2 q1 (cst_lt _ (by decide))
      have D1 := C1.2 (show ¬ isW τ (cstW.getD 1 []) from n1)
      have C2 := c_comes (τ := τ) hT hG k4 k2 k3 h.1.2.2 q2 (cst_lt _ (by decide))
      have D2 := C2.2 (show ¬ isW τ (cstW.getD 2 []) from n2)
      have C3 := c_comes (τ := τ) hT hG k4 k2 k3 h.1.2.2 q3 (cst_lt _ (by decide))
      obtain ⟨z1, u1, u2, u3⟩ := C3.1 (show isW τ (cstW.getD 3 []) from hw)
      have D3 : fy_Reader_comes G y2 R a3 = some (1, y1) := by
        unfold fy_Reader_comes
        have E := c_isW (τ := τ) hT hG k4 k2 k3 h.1.2.2 q3 (cst_lt _ (by decide))
        rw [if_pos (show isW τ (cstW.getD 3 []) from hw)] at E
        rw [ck_ok t2, obs, E, obs, if_neg (by decide), obs, k5, obs]
        rfl
      unfold fy_Reader_line
      rw [ck_ok t0, obs, ec, if_pos z, obs, if_neg (by decide), eR, obs, gI_ok tr, hC.2.2.2.1 10 (by omega) (by omega), obs, i1, iI_add, k1, obs]
      rw [g0, obs, ck_ok t2, obs, D0, obs]
      simp only [if_true]
      rw [g1, obs, ck_ok t2, obs, D1, obs]
      simp only [if_true]
      rw [g2, obs, ck_ok t2, obs, D2, obs]
      simp only [if_true]
      rw [g3, obs, ck_ok t2, obs, D3, obs]
      simp only
      rw [if_neg (by decide)]
      all_goals rfl
    · unfold fm_readLine
      rw [cW_water, V0, obs, if_pos rfl]
      unfold fm_readLine_j24
      rw [cW_current, V1, obs, if_pos rfl]
      unfold fm_readLine_j50
      rw [cW_iron, V2, obs, if_pos rfl]
      unfold fm_readLine_j76
      rw [cW_board, V3, obs, if_neg (by decide)]
      simp (disch := omega) only [hm42, pI, iI_lit, iI_add, iI_sub, iI_mul, iI_neg, obs, if_true, if_false, Int.reduceEq, Int.reduceLE, Int.reduceLT, Int.reduceAdd, Int.reduceSub, Int.reduceMul, Int.reduceNeg, Nat.reduceEqDiff, iI_le, iI_lt, iI_eq]
      rw [if_neg (by omega)]
  · have kk := c_wrong (G := G) h.1.1 h.1.2.1
    have kw := ck_wr h.1.1 (fkT τ) (tP τ)
    unfold fy_Reader_line
    rw [ck_ok t0, obs, ec, if_neg z, obs, if_pos (show iI 0 = (0 : Int32) from rfl), obs, kk, obs, kw, obs]
  · unfold fm_readLine
    rw [cW_water, V0, obs, if_pos rfl]
    unfold fm_readLine_j24
    rw [cW_current, V1, obs, if_pos rfl]
    unfold fm_readLine_j50
    rw [cW_iron, V2, obs, if_pos rfl]
    unfold fm_readLine_j76
    rw [cW_board, V3, obs, if_neg (by decide)]
    simp (disch := omega) only [hm42, iI_lit, iI_add, iI_sub, iI_mul, iI_neg, obs, if_true, if_false, Int.reduceEq, Int.reduceLE, Int.reduceLT, Int.reduceAdd, Int.reduceSub, Int.reduceMul, Int.reduceNeg, Nat.reduceEqDiff, iI_le, iI_lt, iI_eq]
    rw [if_pos (by omega)]
    unfold fm_readLine_j101
    rw [cW_load, V4, obs, if_pos rfl]
    unfold fm_readLine_j127
    rw [cW_heat, V5, obs, if_pos rfl]
    unfold fm_readLine_j151
    rw [cW_flood, V6, obs, if_pos rfl]
    unfold fm_readLine_j190
    rw [cW_draw, V7, obs, if_pos rfl]
theorem hd_load (hT : txO T n) (hG : okW G) (h : LZ G T n N0 R A F r O y s τ ν bd ld) (hL : vN ν 10 ≤ 1900) (h16 : vN ν 16 = if vN ν 10 = 0 then 0 else 1) (hw : isW τ W_load) : (vN ν 1 < 7 → ∃ y1 s1, fm_token s = some s1 ∧ LZ G T n N0 R A F r O y1 s1 (tk T n (tE τ)) (upN (vN ν) 10 (vN ν 10 + 1), vV ν, vW ν, vH ν) bd ld ∧ kpY N0 F 0 0 y y1 ∧ fr [4, 6, 7, 8, 100] [] s s1 ∧ fy_Reader_line G y R = ((ck 8 y1 R).bind fun _ => (fy_Reader_load G y1 R).bind fun p131 => Sum.elim (fun q131 => some (.inl q131, p131.2)) (fun _ => some (.inr (), p131.2)) p131.1) ∧ fm_readLine s = ((fm_readLoad s).bind fun p => fm_readLine_j235 p)) ∧ (¬ (vN ν 1 < 7) → fy_Reader_line G y R = some (.inl F, wrY y F (fkT τ) (tP τ)) ∧ fm_readLine s = fm_readLine_j230 s) := by
  have t0 := h.1.1.1.1
  have hwf := h.2.2.2.2.2.2.1
  obtain ⟨hm38, hm39, hm40, hm41, hm42, hm43, hm44, hm45, hm51, hm52, hm53, hm24, hm20⟩ := h.2.2.2.2.2.1.1
  have eR : gR 8 3 y R = some r := gR_ok t0 h.1.1.2.1.2.2.2
  have hC := h.2.2.2.1
  have tr := hC.1.1
  obtain ⟨a0, g0, q0⟩ := hG.2.2.1 0 (by omega)
  have E0 := c_isW hT hG h.2.2.1 h.1.1 h.1.2.1 h.1.2.2 q0 (cst_lt _ (by decide))
  have V0 := m_isW (w := W_water) h.2.2.2.2.1.2.1 h.1.2.2
  have n0 : ¬ isW τ W_water := isW_ne hw (by decide)
  rw [if_neg (show ¬ isW τ (cstW.getD 0 []) from n0)] at E0
  rw [if_neg n0] at V0
  obtain ⟨a1, g1, q1⟩ := hG.2.2.1 1 (by omega)
  have E1 := c_isW hT hG h.2.2.1 h.1.1 h.1.2.1 h.1.2.2 q1 (cst_lt _ (by decide))
  have V1 := m_isW (w := W_current) h.2.2.2.2.1.2.1 h.1.2.2
  have n1 : ¬ isW τ W_current := isW_ne hw (by decide)
  rw [if_neg (show ¬ isW τ (cstW.getD 1 []) from n1)] at E1
  rw [if_neg n1] at V1
  obtain ⟨a2, g2, q2⟩ := hG.2.2.1 2 (by omega)
  have E2 := c_isW hT hG h.2.2.1 h.1.1 h.1.2.1 h.1.2.2 q2 (cst_lt _ (by decide))
  have V2 := m_isW (w := W_iron) h.2.2.2.2.1.2.1 h.1.2.2
  have n2 : ¬ isW τ W_iron := isW_ne hw (by decide)
  rw [if_neg (show ¬ isW τ (cstW.getD 2 []) from n2)] at E2
  rw [if_neg n2] at V2
  obtain ⟨a3, g3, q3⟩ := hG.2.2.1 3 (by omega)
  have E3 := c_isW hT hG h.2.2.1 h.1.1 h.1.2.1 h.1.2.2 q3 (cst_lt _ (by decide))
  have V3 := m_isW (w := W_board) h.2.2.2.2.1.2.1 h.1.2.2
  have n3 : ¬ isW τ W_board := isW_ne hw (by decide)
  rw [if_neg (show ¬ isW τ (cstW.getD 3 []) from n3)] at E3
  rw [if_neg n3] at V3
  obtain ⟨a4, g4, q4⟩ := hG.2.2.1 4 (by omega)
  have E4 := c_isW hT hG h.2.2.1 h.1.1 h.1.2.1 h.1.2.2 q4 (cst_lt _ (by decide))
  have V4 := m_isW (w := W_load) h.2.2.2.2.1.2.1 h.1.2.2
  rw [if_pos (show isW τ (cstW.getD 4 []) from hw)] at E4
  rw [if_pos hw] at V4
  obtain ⟨a5, g5, q5⟩ := hG.2.2.1 5 (by omega)
  have E5 := c_isW hT hG h.2.2.1 h.1.1 h.1.2.1 h.1.2.2 q5 (cst_lt _ (by decide))
  have V5 := m_isW (w := W_heat) h.2.2.2.2.1.2.1 h.1.2.2
  have n5 : ¬ isW τ W_heat := isW_ne hw (by decide)
  rw [if_neg (show ¬ isW τ (cstW.getD 5 []) from n5)] at E5
  rw [if_neg n5] at V5
  obtain ⟨a6, g6, q6⟩ := hG.2.2.1 6 (by omega)
  have E6 := c_isW hT hG h.2.2.1 h.1.1 h.1.2.1 h.1.2.2 q6 (cst_lt _ (by decide))
  have V6 := m_isW (w := W_flood) h.2.2.2.2.1.2.1 h.1.2.2
  have n6 : ¬ isW τ W_flood := isW_ne hw (by decide)
  rw [if_neg (show ¬ isW τ (cstW.getD 6 []) from n6)] at E6
  rw [if_neg n6] at V6
  obtain ⟨a7, g7, q7⟩ := hG.2.2.1 7 (by omega)
  have E7 := c_isW hT hG h.2.2.1 h.1.1 h.1.2.1 h.1.2.2 q7 (cst_lt _ (by decide))
  have V7 := m_isW (w := W_draw) h.2.2.2.2.1.2.1 h.1.2.2
  have n7 : ¬ isW τ W_draw := isW_ne hw (by decide)
  rw [if_neg (show ¬ isW τ (cstW.getD 7 []) from n7)] at E7
  rw [if_neg n7] at V7
  have ec : fy_Reader_canLine G y R = some (if vN ν 1 < 7 then iI 1 else iI 0) := by
    unfold fy_Reader_canLine
    rw [g0, obs, ck_ok t0, obs, E0, obs, if_pos rfl]
    rw [g1, obs, obs, E1, obs, if_pos rfl]
    rw [g2, obs, obs, E2, obs, if_pos rfl]
    rw [g3, obs, obs, E3, obs, if_pos rfl]
    rw [g4, obs, obs, E4, obs, if_neg (by decide)]
    simp (disch := omega) only [eR, gR_ok tr hC.2.1.2.1, l_c hC.2.2.2.2.2.2.1, l_size hC.2.2.2.2.2.2.1, iI_lit, iI_add, iI_sub, iI_mul, iI_neg, obs, if_true, if_false, Int.reduceEq, Int.reduceLE, Int.reduceLT, Int.reduceAdd, Int.reduceSub, Int.reduceMul, Int.reduceNeg, Nat.reduceEqDiff, iI_le, iI_lt, iI_eq]
    by_cases z : vN ν 1 < 7
    · rw [if_neg (by omega), if_pos z]
    · rw [if_pos (by omega), if_neg z]
  refine ⟨fun z => ?_, fun z => ⟨?_, ?_⟩⟩
  · obtain ⟨y1, s1, k1, ⟨k2, k3, k4⟩, k5, k6, k7, k8, k9⟩ := hd_next hT h hL hw.1
    refine ⟨y1, s1, k6, k7, k8, k9, ?_, ?_⟩
    · generalize hy2 : sF y r 10 (iI (vN ν 10 + 1)) = y2 at *
      have t2 := k2.1.1
      have C0 := c_comes (τ := τ) hT hG k4 k2 k3 h.1.2.2 q0 (cst_lt _ (by decide))
      have D0 := C0.2 (show ¬ isW τ (cstW.getD 0 []) from n0)
      have C1 := c_comes (τ := τ) hT hG k4 k2 k3 h.1.2.2 q1 (cst_lt _ (by decide))
      have D1 := C1.2 (show ¬ isW τ (cstW.getD 1 []) from n1)
      have C2 := c_comes (τ := τ) hT hG k4 k2 k3 h.1.2.2 q2 (cst_lt _ (by decide))
      have D2 := C2.2 (show ¬ isW τ (cstW.getD 2 []) from n2)
      have C3 := c_comes (τ := τ) hT hG k4 k2 k3 h.1.2.2 q3 (cst_lt _ (by decide))
      have D3 := C3.2 (show ¬ isW τ (cstW.getD 3 []) from n3)
      have C4 := c_comes (τ := τ) hT hG k4 k2 k3 h.1.2.2 q4 (cst_lt _ (by decide))
      obtain ⟨z1, u1, u2, u3⟩ := C4.1 (show isW τ (cstW.getD 4 []) from hw)
      have D4 : fy_Reader_comes G y2 R a4 = some (1, y1) := by
        unfold fy_Reader_comes
        have E := c_isW (τ := τ) hT hG k4 k2 k3 h.1.2.2 q4 (cst_lt _ (by decide))
        rw [if_pos (show isW τ (cstW.getD 4 []) from hw)] at E
        rw [ck_ok t2, obs, E, obs, if_neg (by decide), obs, k5, obs]
        rfl
      unfold fy_Reader_line
      rw [ck_ok t0, obs, ec, if_pos z, obs, if_neg (by decide), eR, obs, gI_ok tr, hC.2.2.2.1 10 (by omega) (by omega), obs, i1, iI_add, k1, obs]
      rw [g0, obs, ck_ok t2, obs, D0, obs]
      simp only [if_true]
      rw [g1, obs, ck_ok t2, obs, D1, obs]
      simp only [if_true]
      rw [g2, obs, ck_ok t2, obs, D2, obs]
      simp only [if_true]
      rw [g3, obs, ck_ok t2, obs, D3, obs]
      simp only [if_true]
      rw [g4, obs, ck_ok t2, obs, D4, obs]
      simp only
      rw [if_neg (by decide)]
      all_goals rfl
    · unfold fm_readLine
      rw [cW_water, V0, obs, if_pos rfl]
      unfold fm_readLine_j24
      rw [cW_current, V1, obs, if_pos rfl]
      unfold fm_readLine_j50
      rw [cW_iron, V2, obs, if_pos rfl]
      unfold fm_readLine_j76
      rw [cW_board, V3, obs, if_pos rfl]
      unfold fm_readLine_j101
      rw [cW_load, V4, obs, if_neg (by decide)]
      simp (disch := omega) only [hm43, pI, iI_lit, iI_add, iI_sub, iI_mul, iI_neg, obs, if_true, if_false, Int.reduceEq, Int.reduceLE, Int.reduceLT, Int.reduceAdd, Int.reduceSub, Int.reduceMul, Int.reduceNeg, Nat.reduceEqDiff, iI_le, iI_lt, iI_eq]
      rw [if_neg (by omega)]
  · have kk := c_wrong (G := G) h.1.1 h.1.2.1
    have kw := ck_wr h.1.1 (fkT τ) (tP τ)
    unfold fy_Reader_line
    rw [ck_ok t0, obs, ec, if_neg z, obs, if_pos (show iI 0 = (0 : Int32) from rfl), obs, kk, obs, kw, obs]
  · unfold fm_readLine
    rw [cW_water, V0, obs, if_pos rfl]
    unfold fm_readLine_j24
    rw [cW_current, V1, obs, if_pos rfl]
    unfold fm_readLine_j50
    rw [cW_iron, V2, obs, if_pos rfl]
    unfold fm_readLine_j76
    rw [cW_board, V3, obs, if_pos rfl]
    unfold fm_readLine_j101
    rw [cW_load, V4, obs, if_neg (by decide)]
    simp (disch := omega) only [hm43, iI_lit, iI_add, iI_sub, iI_mul, iI_neg, obs, if_true, if_false, Int.reduceEq, Int.reduceLE, Int.reduceLT, Int.reduceAdd, Int.reduceSub, Int.reduceMul, Int.reduceNeg, Nat.reduceEqDiff, iI_le, iI_lt, iI_eq]
    rw [if_pos (by omega)]
    unfold fm_readLine_j127
    rw [cW_heat, V5, obs, if_pos rfl]
    unfold fm_readLine_j151
    rw [cW_flood, V6, obs, if_pos rfl]
    unfold fm_readLine_j190
    rw [cW_draw, V7, obs, if_pos rfl]
theorem hd_heat (hT : txO T n) (hG : okW G) (h : LZ G T n N0 R A F r O y s τ ν bd ld) (hL : vN ν 10 ≤ 1900) (h16 : vN ν 16 = if vN ν 10 = 0 then 0 else 1) (hw : isW τ W_heat) : (vH ν = [] → ∃ y1 s1, fm_token s = some s1 ∧ LZ G T n N0 R A F r O y1 s1 (tk T n (tE τ)) (upN (vN ν) 10 (vN ν 10 + 1), vV ν, vW ν, vH ν) bd ld ∧ kpY N0 F 0 0 y y1 ∧ fr [4, 6, 7, 8, 100] [] s s1 ∧ fy_Reader_line G y R = ((gR 8 3 y1 R).bind fun x148 => (ck 8 y1 R).bind fun _ => (fy_Reader_formula G y1 R).bind fun p152 => Sum.elim (fun q152 => some (.inl q152, p152.2)) (fun v152 => (wR 1 5 p152.2 x148 (some v152)).bind fun s155 => some (.inr (), s155)) p152.1) ∧ fm_readLine s = ((fm_formula s).bind fun p => fm_readLine_j235 p)) ∧ (¬ (vH ν = []) → fy_Reader_line G y R = some (.inl F, wrY y F (fkT τ) (tP τ)) ∧ fm_readLine s = fm_readLine_j230 s) := by
  have t0 := h.1.1.1.1
  have hwf := h.2.2.2.2.2.2.1
  obtain ⟨hm38, hm39, hm40, hm41, hm42, hm43, hm44, hm45, hm51, hm52, hm53, hm24, hm20⟩ := h.2.2.2.2.2.1.1
  have eR : gR 8 3 y R = some r := gR_ok t0 h.1.1.2.1.2.2.2
  have hC := h.2.2.2.1
  have tr := hC.1.1
  obtain ⟨a0, g0, q0⟩ := hG.2.2.1 0 (by omega)
  have E0 := c_isW hT hG h.2.2.1 h.1.1 h.1.2.1 h.1.2.2 q0 (cst_lt _ (by decide))
  have V0 := m_isW (w := W_water) h.2.2.2.2.1.2.1 h.1.2.2
  have n0 : ¬ isW τ W_water := isW_ne hw (by decide)
  rw [if_neg (show ¬ isW τ (cstW.getD 0 []) from n0)] at E0
  rw [if_neg n0] at V0
  obtain ⟨a1, g1, q1⟩ := hG.2.2.1 1 (by omega)
  have E1 := c_isW hT hG h.2.2.1 h.1.1 h.1.2.1 h.1.2.2 q1 (cst_lt _ (by decide))
  have V1 := m_isW (w := W_current) h.2.2.2.2.1.2.1 h.1.2.2
  have n1 : ¬ isW τ W_current := isW_ne hw (by decide)
  rw [if_neg (show ¬ isW τ (cstW.getD 1 []) from n1)] at E1
  rw [if_neg n1] at V1
  obtain ⟨a2, g2, q2⟩ := hG.2.2.1 2 (by omega)
  have E2 := c_isW hT hG h.2.2.1 h.1.1 h.1.2.1 h.1.2.2 q2 (cst_lt _ (by decide))
  have V2 := m_isW (w := W_iron) h.2.2.2.2.1.2.1 h.1.2.2
  have n2 : ¬ isW τ W_iron := isW_ne hw (by decide)
  rw [if_neg (show ¬ isW τ (cstW.getD 2 []) from n2)] at E2
  rw [if_neg n2] at V2
  obtain ⟨a3, g3, q3⟩ := hG.2.2.1 3 (by omega)
  have E3 := c_isW hT hG h.2.2.1 h.1.1 h.1.2.1 h.1.2.2 q3 (cst_lt _ (by decide))
  have V3 := m_isW (w := W_board) h.2.2.2.2.1.2.1 h.1.2.2
  have n3 : ¬ isW τ W_board := isW_ne hw (by decide)
  rw [if_neg (show ¬ isW τ (cstW.getD 3 []) from n3)] at E3
  rw [if_neg n3] at V3
  obtain ⟨a4, g4, q4⟩ := hG.2.2.1 4 (by omega)
  have E4 := c_isW hT hG h.2.2.1 h.1.1 h.1.2.1 h.1.2.2 q4 (cst_lt _ (by decide))
  have V4 := m_isW (w := W_load) h.2.2.2.2.1.2.1 h.1.2.2
  have n4 : ¬ isW τ W_load := isW_ne hw (by decide)
  rw [if_neg (show ¬ isW τ (cstW.getD 4 []) from n4)] at E4
  rw [if_neg n4] at V4
  obtain ⟨a5, g5, q5⟩ := hG.2.2.1 5 (by omega)
  have E5 := c_isW hT hG h.2.2.1 h.1.1 h.1.2.1 h.1.2.2 q5 (cst_lt _ (by decide))
  have V5 := m_isW (w := W_heat) h.2.2.2.2.1.2.1 h.1.2.2
  rw [if_pos (show isW τ (cstW.getD 5 []) from hw)] at E5
  rw [if_pos hw] at V5
  obtain ⟨a6, g6, q6⟩ := hG.2.2.1 6 (by omega)
  have E6 := c_isW hT hG h.2.2.1 h.1.1 h.1.2.1 h.1.2.2 q6 (cst_lt _ (by decide))
  have V6 := m_isW (w := W_flood) h.2.2.2.2.1.2.1 h.1.2.2
  have n6 : ¬ isW τ W_flood := isW_ne hw (by decide)
  rw [if_neg (show ¬ isW τ (cstW.getD 6 []) from n6)] at E6
  rw [if_neg n6] at V6
  obtain ⟨a7, g7, q7⟩ := hG.2.2.1 7 (by omega)
  have E7 := c_isW hT hG h.2.2.1 h.1.1 h.1.2.1 h.1.2.2 q7 (cst_lt _ (by decide))
  have V7 := m_isW (w := W_draw) h.2.2.2.2.1.2.1 h.1.2.2
  have n7 : ¬ isW τ W_draw := isW_ne hw (by decide)
  rw [if_neg (show ¬ isW τ (cstW.getD 7 []) from n7)] at E7
  rw [if_neg n7] at V7
  have eN : gN 1 5 y r = some (yr y r 5) := if_pos tr
  have hN : yr y r 5 = none ↔ vH ν = [] := by
    rcases hC.2.2.2.2.2.2.2.2.2 with ⟨z1, z2⟩ | ⟨q, z1, z2⟩
    · exact ⟨fun _ => z1, fun _ => z2⟩
    · exact ⟨fun z => (by rw [z1] at z; cases z), fun z => absurd z z2.ne⟩
  have ec : fy_Reader_canLine G y R = some (if vH ν = [] then iI 1 else iI 0) := by
    unfold fy_Reader_canLine
    rw [g0, obs, ck_ok t0, obs, E0, obs, if_pos rfl]
    rw [g1, obs, obs, E1, obs, if_pos rfl]
    rw [g2, obs, obs, E2, obs, if_pos rfl]
    rw [g3, obs, obs, E3, obs, if_pos rfl]
    rw [g4, obs, obs, E4, obs, if_pos rfl]
    rw [g5, obs, obs, E5, obs, if_neg (by decide)]
    simp (disch := omega) only [eR, eN, iI_lit, iI_add, iI_sub, iI_mul, iI_neg, obs, if_true, if_false, Int.reduceEq, Int.reduceLE, Int.reduceLT, Int.reduceAdd, Int.reduceSub, Int.reduceMul, Int.reduceNeg, Nat.reduceEqDiff, iI_le, iI_lt, iI_eq]
    by_cases z : vH ν = []
    · rw [if_pos (hN.mpr z), if_pos z]
    · rw [if_neg (fun q => z (hN.mp q)), if_neg z]
  refine ⟨fun z => ?_, fun z => ⟨?_, ?_⟩⟩
  · obtain ⟨y1, s1, k1, ⟨k2, k3, k4⟩, k5, k6, k7, k8, k9⟩ := hd_next hT h hL hw.1
    refine ⟨y1, s1, k6, k7, k8, k9, ?_, ?_⟩
    · generalize hy2 : sF y r 10 (iI (vN ν 10 + 1)) = y2 at *
      have t2 := k2.1.1
      have C0 := c_comes (τ := τ) hT hG k4 k2 k3 h.1.2.2 q0 (cst_lt _ (by decide))
      have D0 := C0.2 (show ¬ isW τ (cstW.getD 0 []) from n0)
      have C1 := c_comes (τ := τ) hT hG k4 k2 k3 h.1.2.2 q1 (cst_lt _ (by decide))
      have D1 := C1.2 (show ¬ isW τ (cstW.getD 1 []) from n1)
      have C2 := c_comes (τ := τ) hT hG k4 k2 k3 h.1.2.2 q2 (cst_lt _ (by decide))
      have D2 := C2.2 (show ¬ isW τ (cstW.getD 2 []) from n2)
      have C3 := c_comes (τ := τ) hT hG k4 k2 k3 h.1.2.2 q3 (cst_lt _ (by decide))
      have D3 := C3.2 (show ¬ isW τ (cstW.getD 3 []) from n3)
      have C4 := c_comes (τ := τ) hT hG k4 k2 k3 h.1.2.2 q4 (cst_lt _ (by decide))
      have D4 := C4.2 (show ¬ isW τ (cstW.getD 4 []) from n4)
      have C5 := c_comes (τ := τ) hT hG k4 k2 k3 h.1.2.2 q5 (cst_lt _ (by decide))
      obtain ⟨z1, u1, u2, u3⟩ := C5.1 (show isW τ (cstW.getD 5 []) from hw)
      have D5 : fy_Reader_comes G y2 R a5 = some (1, y1) := by
        unfold fy_Reader_comes
        have E := c_isW (τ := τ) hT hG k4 k2 k3 h.1.2.2 q5 (cst_lt _ (by decide))
        rw [if_pos (show isW τ (cstW.getD 5 []) from hw)] at E
        rw [ck_ok t2, obs, E, obs, if_neg (by decide), obs, k5, obs]
        rfl
      unfold fy_Reader_line
      rw [ck_ok t0, obs, ec, if_pos z, obs, if_neg (by decide), eR, obs, gI_ok tr, hC.2.2.2.1 10 (by omega) (by omega), obs, i1, iI_add, k1, obs]
      rw [g0, obs, ck_ok t2, obs, D0, obs]
      simp only [if_true]
      rw [g1, obs, ck_ok t2, obs, D1, obs]
      simp only [if_true]
      rw [g2, obs, ck_ok t2, obs, D2, obs]
      simp only [if_true]
      rw [g3, obs, ck_ok t2, obs, D3, obs]
      simp only [if_true]
      rw [g4, obs, ck_ok t2, obs, D4, obs]
      simp only [if_true]
      rw [g5, obs, ck_ok t2, obs, D5, obs]
      simp only
      rw [if_neg (by decide)]
      all_goals rfl
    · unfold fm_readLine
      rw [cW_water, V0, obs, if_pos rfl]
      unfold fm_readLine_j24
      rw [cW_current, V1, obs, if_pos rfl]
      unfold fm_readLine_j50
      rw [cW_iron, V2, obs, if_pos rfl]
      unfold fm_readLine_j76
      rw [cW_board, V3, obs, if_pos rfl]
      unfold fm_readLine_j101
      rw [cW_load, V4, obs, if_pos rfl]
      unfold fm_readLine_j127
      rw [cW_heat, V5, obs, if_neg (by decide)]
      simp (disch := omega) only [hm24, pI, iI_lit, iI_add, iI_sub, iI_mul, iI_neg, obs, if_true, if_false, Int.reduceEq, Int.reduceLE, Int.reduceLT, Int.reduceAdd, Int.reduceSub, Int.reduceMul, Int.reduceNeg, Nat.reduceEqDiff, iI_le, iI_lt, iI_eq]
      rw [if_pos z, if_pos rfl]
  · have kk := c_wrong (G := G) h.1.1 h.1.2.1
    have kw := ck_wr h.1.1 (fkT τ) (tP τ)
    unfold fy_Reader_line
    rw [ck_ok t0, obs, ec, if_neg z, obs, if_pos (show iI 0 = (0 : Int32) from rfl), obs, kk, obs, kw, obs]
  · unfold fm_readLine
    rw [cW_water, V0, obs, if_pos rfl]
    unfold fm_readLine_j24
    rw [cW_current, V1, obs, if_pos rfl]
    unfold fm_readLine_j50
    rw [cW_iron, V2, obs, if_pos rfl]
    unfold fm_readLine_j76
    rw [cW_board, V3, obs, if_pos rfl]
    unfold fm_readLine_j101
    rw [cW_load, V4, obs, if_pos rfl]
    unfold fm_readLine_j127
    rw [cW_heat, V5, obs, if_neg (by decide)]
    simp (disch := omega) only [hm24, iI_lit, iI_add, iI_sub, iI_mul, iI_neg, obs, if_true, if_false, Int.reduceEq, Int.reduceLE, Int.reduceLT, Int.reduceAdd, Int.reduceSub, Int.reduceMul, Int.reduceNeg, Nat.reduceEqDiff, iI_le, iI_lt, iI_eq]
    rw [if_neg z, if_neg (by omega)]
    unfold fm_readLine_j151
    rw [cW_flood, V6, obs, if_pos rfl]
    unfold fm_readLine_j190
    rw [cW_draw, V7, obs, if_pos rfl]
theorem hd_flood (hT : txO T n) (hG : okW G) (h : LZ G T n N0 R A F r O y s τ ν bd ld) (hL : vN ν 10 ≤ 1900) (h16 : vN ν 16 = if vN ν 10 = 0 then 0 else 1) (hw : isW τ W_flood) : (vN ν 6 = 0 → ∃ y1 s1, fm_token s = some s1 ∧ LZ G T n N0 R A F r O y1 s1 (tk T n (tE τ)) (upN (vN ν) 10 (vN ν 10 + 1), vV ν, vW ν, vH ν) bd ld ∧ kpY N0 F 0 0 y y1 ∧ fr [4, 6, 7, 8, 100] [] s s1 ∧ fy_Reader_line G y R = ((gR 8 3 y1 R).bind fun x172 => (wZ 1 6 y1 x172 1).bind fun s176 => (gR 8 3 s176 R).bind fun x180 => (ck 8 s176 R).bind fun _ => (fy_Reader_number G s176 R 0 100).bind fun p187 => Sum.elim (fun q187 => some (.inl q187, p187.2)) (fun v187 => (wI 1 14 p187.2 x180 v187).bind fun s190 => some (.inr (), s190)) p187.1) ∧ fm_readLine s = ((fm_told (mSi s 52 (iI 1)) (wcd W_flood) 0 100).bind fun p => fm_readLine_j235 (mSi p.2 44 p.1))) ∧ (¬ (vN ν 6 = 0) → fy_Reader_line G y R = some (.inl F, wrY y F (fkT τ) (tP τ)) ∧ fm_readLine s = fm_readLine_j230 s) := by
  have t0 := h.1.1.1.1
  have hwf := h.2.2.2.2.2.2.1
  obtain ⟨hm38, hm39, hm40, hm41, hm42, hm43, hm44, hm45, hm51, hm52, hm53, hm24, hm20⟩ := h.2.2.2.2.2.1.1
  have eR : gR 8 3 y R = some r := gR_ok t0 h.1.1.2.1.2.2.2
  have hC := h.2.2.2.1
  have tr := hC.1.1
  obtain ⟨a0, g0, q0⟩ := hG.2.2.1 0 (by omega)
  have E0 := c_isW hT hG h.2.2.1 h.1.1 h.1.2.1 h.1.2.2 q0 (cst_lt _ (by decide))
  have V0 := m_isW (w := W_water) h.2.2.2.2.1.2.1 h.1.2.2
  have n0 : ¬ isW τ W_water := isW_ne hw (by decide)
  rw [if_neg (show ¬ isW τ (cstW.getD 0 []) from n0)] at E0
  rw [if_neg n0] at V0
  obtain ⟨a1, g1, q1⟩ := hG.2.2.1 1 (by omega)
  have E1 := c_isW hT hG h.2.2.1 h.1.1 h.1.2.1 h.1.2.2 q1 (cst_lt _ (by decide))
  have V1 := m_isW (w := W_current) h.2.2.2.2.1.2.1 h.1.2.2
  have n1 : ¬ isW τ W_current := isW_ne hw (by decide)
  rw [if_neg (show ¬ isW τ (cstW.getD 1 []) from n1)] at E1
  rw [if_neg n1] at V1
  obtain ⟨a2, g2, q2⟩ := hG.2.2.1 2 (by omega)
  have E2 := c_isW hT hG h.2.2.1 h.1.1 h.1.2.1 h.1.2.2 q2 (cst_lt _ (by decide))
  have V2 := m_isW (w := W_iron) h.2.2.2.2.1.2.1 h.1.2.2
  have n2 : ¬ isW τ W_iron := isW_ne hw (by decide)
  rw [if_neg (show ¬ isW τ (cstW.getD 2 []) from n2)] at E2
  rw [if_neg n2] at V2
  obtain ⟨a3, g3, q3⟩ := hG.2.2.1 3 (by omega)
  have E3 := c_isW hT hG h.2.2.1 h.1.1 h.1.2.1 h.1.2.2 q3 (cst_lt _ (by decide))
  have V3 := m_isW (w := W_board) h.2.2.2.2.1.2.1 h.1.2.2
  have n3 : ¬ isW τ W_board := isW_ne hw (by decide)
  rw [if_neg (show ¬ isW τ (cstW.getD 3 []) from n3)] at E3
  rw [if_neg n3] at V3
  obtain ⟨a4, g4, q4⟩ := hG.2.2.1 4 (by omega)
  have E4 := c_isW hT hG h.2.2.1 h.1.1 h.1.2.1 h.1.2.2 q4 (cst_lt _ (by decide))
  have V4 := m_isW (w := W_load) h.2.2.2.2.1.2.1 h.1.2.2
  have n4 : ¬ isW τ W_load := isW_ne hw (by decide)
  rw [if_neg (show ¬ isW τ (cstW.getD 4 []) from n4)] at E4
  rw [if_neg n4] at V4
  obtain ⟨a5, g5, q5⟩ := hG.2.2.1 5 (by omega)
  have E5 := c_isW hT hG h.2.2.1 h.1.1 h.1.2.1 h.1.2.2 q5 (cst_lt _ (by decide))
  have V5 := m_isW (w := W_heat) h.2.2.2.2.1.2.1 h.1.2.2
  have n5 : ¬ isW τ W_heat := isW_ne hw (by decide)
  rw [if_neg (show ¬ isW τ (cstW.getD 5 []) from n5)] at E5
  rw [if_neg n5] at V5
  obtain ⟨a6, g6, q6⟩ := hG.2.2.1 6 (by omega)
  have E6 := c_isW hT hG h.2.2.1 h.1.1 h.1.2.1 h.1.2.2 q6 (cst_lt _ (by decide))
  have V6 := m_isW (w := W_flood) h.2.2.2.2.1.2.1 h.1.2.2
  rw [if_pos (show isW τ (cstW.getD 6 []) from hw)] at E6
  rw [if_pos hw] at V6
  obtain ⟨a7, g7, q7⟩ := hG.2.2.1 7 (by omega)
  have E7 := c_isW hT hG h.2.2.1 h.1.1 h.1.2.1 h.1.2.2 q7 (cst_lt _ (by decide))
  have V7 := m_isW (w := W_draw) h.2.2.2.2.1.2.1 h.1.2.2
  have n7 : ¬ isW τ W_draw := isW_ne hw (by decide)
  rw [if_neg (show ¬ isW τ (cstW.getD 7 []) from n7)] at E7
  rw [if_neg n7] at V7
  have ec : fy_Reader_canLine G y R = some (if vN ν 6 = 0 then iI 1 else iI 0) := by
    unfold fy_Reader_canLine
    rw [g0, obs, ck_ok t0, obs, E0, obs, if_pos rfl]
    rw [g1, obs, obs, E1, obs, if_pos rfl]
    rw [g2, obs, obs, E2, obs, if_pos rfl]
    rw [g3, obs, obs, E3, obs, if_pos rfl]
    rw [g4, obs, obs, E4, obs, if_pos rfl]
    rw [g5, obs, obs, E5, obs, if_pos rfl]
    rw [g6, obs, obs, E6, obs, if_neg (by decide)]
    simp (disch := omega) only [eR, gI_ok tr, hC.2.2.2.1 6 (by omega) (by omega), iI_lit, iI_add, iI_sub, iI_mul, iI_neg, obs, if_true, if_false, Int.reduceEq, Int.reduceLE, Int.reduceLT, Int.reduceAdd, Int.reduceSub, Int.reduceMul, Int.reduceNeg, Nat.reduceEqDiff, iI_le, iI_lt, iI_eq]
    by_cases z : vN ν 6 = 0
    · rw [if_pos z, if_pos z]
    · rw [if_neg z, if_neg z]
  refine ⟨fun z => ?_, fun z => ⟨?_, ?_⟩⟩
  · obtain ⟨y1, s1, k1, ⟨k2, k3, k4⟩, k5, k6, k7, k8, k9⟩ := hd_next hT h hL hw.1
    refine ⟨y1, s1, k6, k7, k8, k9, ?_, ?_⟩
    · generalize hy2 : sF y r 10 (iI (vN ν 10 + 1)) = y2 at *
      have t2 := k2.1.1
      have C0 := c_comes (τ := τ) hT hG k4 k2 k3 h.1.2.2 q0 (cst_lt _ (by decide))
      have D0 := C0.2 (show ¬ isW τ (cstW.getD 0 []) from n0)
      have C1 := c_comes (τ := τ) hT hG k4 k2 k3 h.1.2.2 q1 (cst_lt _ (by decide))
      have D1 := C1.2 (show ¬ isW τ (cstW.getD 1 []) from n1)
      have C2 := c_comes (τ := τ) hT hG k4 k2 k3 h.1.2.2 q2 (cst_lt _ (by decide))
      have D2 := C2.2 (show ¬ isW τ (cstW.getD 2 []) from n2)
      have C3 := c_comes (τ := τ) hT hG k4 k2 k3 h.1.2.2 q3 (cst_lt _ (by decide))
      have D3 := C3.2 (show ¬ isW τ (cstW.getD 3 []) from n3)
      have C4 := c_comes (τ := τ) hT hG k4 k2 k3 h.1.2.2 q4 (cst_lt _ (by decide))
      have D4 := C4.2 (show ¬ isW τ (cstW.getD 4 []) from n4)
      have C5 := c_comes (τ := τ) hT hG k4 k2 k3 h.1.2.2 q5 (cst_lt _ (by decide))
      have D5 := C5.2 (show ¬ isW τ (cstW.getD 5 []) from n5)
      have C6 := c_comes (τ := τ) hT hG k4 k2 k3 h.1.2.2 q6 (cst_lt _ (by decide))
      obtain ⟨z1, u1, u2, u3⟩ := C6.1 (show isW τ (cstW.getD 6 []) from hw)
      have D6 : fy_Reader_comes G y2 R a6 = some (1, y1) := by
        unfold fy_Reader_comes
        have E := c_isW (τ := τ) hT hG k4 k2 k3 h.1.2.2 q6 (cst_lt _ (by decide))
        rw [if_pos (show isW τ (cstW.getD 6 []) from hw)] at E
        rw [ck_ok t2, obs, E, obs, if_neg (by decide), obs, k5, obs]
        rfl
      unfold fy_Reader_line
      rw [ck_ok t0, obs, ec, if_pos z, obs, if_neg (by decide), eR, obs, gI_ok tr, hC.2.2.2.1 10 (by omega) (by omega), obs, i1, iI_add, k1, obs]
      rw [g0, obs, ck_ok t2, obs, D0, obs]
      simp only [if_true]
      rw [g1, obs, ck_ok t2, obs, D1, obs]
      simp only [if_true]
      rw [g2, obs, ck_ok t2, obs, D2, obs]
      simp only [if_true]
      rw [g3, obs, ck_ok t2, obs, D3, obs]
      simp only [if_true]
      rw [g4, obs, ck_ok t2, obs, D4, obs]
      simp only [if_true]
      rw [g5, obs, ck_ok t2, obs, D5, obs]
      simp only [if_true]
      rw [g6, obs, ck_ok t2, obs, D6, obs]
      simp only
      rw [if_neg (by decide)]
      all_goals rfl
    · unfold fm_readLine
      rw [cW_water, V0, obs, if_pos rfl]
      unfold fm_readLine_j24
      rw [cW_current, V1, obs, if_pos rfl]
      unfold fm_readLine_j50
      rw [cW_iron, V2, obs, if_pos rfl]
      unfold fm_readLine_j76
      rw [cW_board, V3, obs, if_pos rfl]
      unfold fm_readLine_j101
      rw [cW_load, V4, obs, if_pos rfl]
      unfold fm_readLine_j127
      rw [cW_heat, V5, obs, if_pos rfl]
      unfold fm_readLine_j151
      rw [cW_flood, V6, obs, if_neg (by decide)]
      simp (disch := omega) only [hm52, pI, iI_lit, iI_add, iI_sub, iI_mul, iI_neg, obs, if_true, if_false, Int.reduceEq, Int.reduceLE, Int.reduceLT, Int.reduceAdd, Int.reduceSub, Int.reduceMul, Int.reduceNeg, Nat.reduceEqDiff, iI_le, iI_lt, iI_eq, cW_flood]
      rw [if_pos z]
  · have kk := c_wrong (G := G) h.1.1 h.1.2.1
    have kw := ck_wr h.1.1 (fkT τ) (tP τ)
    unfold fy_Reader_line
    rw [ck_ok t0, obs, ec, if_neg z, obs, if_pos (show iI 0 = (0 : Int32) from rfl), obs, kk, obs, kw, obs]
  · unfold fm_readLine
    rw [cW_water, V0, obs, if_pos rfl]
    unfold fm_readLine_j24
    rw [cW_current, V1, obs, if_pos rfl]
    unfold fm_readLine_j50
    rw [cW_iron, V2, obs, if_pos rfl]
    unfold fm_readLine_j76
    rw [cW_board, V3, obs, if_pos rfl]
    unfold fm_readLine_j101
    rw [cW_load, V4, obs, if_pos rfl]
    unfold fm_readLine_j127
    rw [cW_heat, V5, obs, if_pos rfl]
    unfold fm_readLine_j151
    rw [cW_flood, V6, obs, if_neg (by decide)]
    simp (disch := omega) only [hm52, iI_lit, iI_add, iI_sub, iI_mul, iI_neg, obs, if_true, if_false, Int.reduceEq, Int.reduceLE, Int.reduceLT, Int.reduceAdd, Int.reduceSub, Int.reduceMul, Int.reduceNeg, Nat.reduceEqDiff, iI_le, iI_lt, iI_eq]
    rw [if_neg z]
    unfold fm_readLine_j190
    rw [cW_draw, V7, obs, if_pos rfl]
theorem hd_draw (hT : txO T n) (hG : okW G) (h : LZ G T n N0 R A F r O y s τ ν bd ld) (hL : vN ν 10 ≤ 1900) (h16 : vN ν 16 = if vN ν 10 = 0 then 0 else 1) (hw : isW τ W_draw) : (vN ν 7 = 0 → ∃ y1 s1, fm_token s = some s1 ∧ LZ G T n N0 R A F r O y1 s1 (tk T n (tE τ)) (upN (vN ν) 10 (vN ν 10 + 1), vV ν, vW ν, vH ν) bd ld ∧ kpY N0 F 0 0 y y1 ∧ fr [4, 6, 7, 8, 100] [] s s1 ∧ fy_Reader_line G y R = ((gR 8 3 y1 R).bind fun x201 => (wZ 1 7 y1 x201 1).bind fun s205 => (gR 8 3 s205 R).bind fun x209 => (ck 8 s205 R).bind fun _ => (fy_Reader_number G s205 R 0 999).bind fun p217 => Sum.elim (fun q217 => some (.inl q217, p217.2)) (fun v217 => (wI 1 15 p217.2 x209 v217).bind fun s220 => some (.inr (), s220)) p217.1) ∧ fm_readLine s = ((fm_told (mSi s 53 (iI 1)) (wcd W_draw) 0 999).bind fun p => fm_readLine_j235 (mSi p.2 45 p.1))) ∧ (¬ (vN ν 7 = 0) → fy_Reader_line G y R = some (.inl F, wrY y F (fkT τ) (tP τ)) ∧ fm_readLine s = fm_readLine_j230 s) := by
  have t0 := h.1.1.1.1
  have hwf := h.2.2.2.2.2.2.1
  obtain ⟨hm38, hm39, hm40, hm41, hm42, hm43, hm44, hm45, hm51, hm52, hm53, hm24, hm20⟩ := h.2.2.2.2.2.1.1
  have eR : gR 8 3 y R = some r := gR_ok t0 h.1.1.2.1.2.2.2
  have hC := h.2.2.2.1
  have tr := hC.1.1
  obtain ⟨a0, g0, q0⟩ := hG.2.2.1 0 (by omega)
  have E0 := c_isW hT hG h.2.2.1 h.1.1 h.1.2.1 h.1.2.2 q0 (cst_lt _ (by decide))
  have V0 := m_isW (w := W_water) h.2.2.2.2.1.2.1 h.1.2.2
  have n0 : ¬ isW τ W_water := isW_ne hw (by decide)
  rw [if_neg (show ¬ isW τ (cstW.getD 0 []) from n0)] at E0
  rw [if_neg n0] at V0
  obtain ⟨a1, g1, q1⟩ := hG.2.2.1 1 (by omega)
  have E1 := c_isW hT hG h.2.2.1 h.1.1 h.1.2.1 h.1.2.2 q1 (cst_lt _ (by decide))
  have V1 := m_isW (w := W_current) h.2.2.2.2.1.2.1 h.1.2.2
  have n1 : ¬ isW τ W_current := isW_ne hw (by decide)
  rw [if_neg (show ¬ isW τ (cstW.getD 1 []) from n1)] at E1
  rw [if_neg n1] at V1
  obtain ⟨a2, g2, q2⟩ := hG.2.2.1 2 (by omega)
  have E2 := c_isW hT hG h.2.2.1 h.1.1 h.1.2.1 h.1.2.2 q2 (cst_lt _ (by decide))
  have V2 := m_isW (w := W_iron) h.2.2.2.2.1.2.1 h.1.2.2
  have n2 : ¬ isW τ W_iron := isW_ne hw (by decide)
  rw [if_neg (show ¬ isW τ (cstW.getD 2 []) from n2)] at E2
  rw [if_neg n2] at V2
  obtain ⟨a3, g3, q3⟩ := hG.2.2.1 3 (by omega)
  have E3 := c_isW hT hG h.2.2.1 h.1.1 h.1.2.1 h.1.2.2 q3 (cst_lt _ (by decide))
  have V3 := m_isW (w := W_board) h.2.2.2.2.1.2.1 h.1.2.2
  have n3 : ¬ isW τ W_board := isW_ne hw (by decide)
  rw [if_neg (show ¬ isW τ (cstW.getD 3 []) from n3)] at E3
  rw [if_neg n3] at V3
  obtain ⟨a4, g4, q4⟩ := hG.2.2.1 4 (by omega)
  have E4 := c_isW hT hG h.2.2.1 h.1.1 h.1.2.1 h.1.2.2 q4 (cst_lt _ (by decide))
  have V4 := m_isW (w := W_load) h.2.2.2.2.1.2.1 h.1.2.2
  have n4 : ¬ isW τ W_load := isW_ne hw (by decide)
  rw [if_neg (show ¬ isW τ (cstW.getD 4 []) from n4)] at E4
  rw [if_neg n4] at V4
  obtain ⟨a5, g5, q5⟩ := hG.2.2.1 5 (by omega)
  have E5 := c_isW hT hG h.2.2.1 h.1.1 h.1.2.1 h.1.2.2 q5 (cst_lt _ (by decide))
  have V5 := m_isW (w := W_heat) h.2.2.2.2.1.2.1 h.1.2.2
  have n5 : ¬ isW τ W_heat := isW_ne hw (by decide)
  rw [if_neg (show ¬ isW τ (cstW.getD 5 []) from n5)] at E5
  rw [if_neg n5] at V5
  obtain ⟨a6, g6, q6⟩ := hG.2.2.1 6 (by omega)
  have E6 := c_isW hT hG h.2.2.1 h.1.1 h.1.2.1 h.1.2.2 q6 (cst_lt _ (by decide))
  have V6 := m_isW (w := W_flood) h.2.2.2.2.1.2.1 h.1.2.2
  have n6 : ¬ isW τ W_flood := isW_ne hw (by decide)
  rw [if_neg (show ¬ isW τ (cstW.getD 6 []) from n6)] at E6
  rw [if_neg n6] at V6
  obtain ⟨a7, g7, q7⟩ := hG.2.2.1 7 (by omega)
  have E7 := c_isW hT hG h.2.2.1 h.1.1 h.1.2.1 h.1.2.2 q7 (cst_lt _ (by decide))
  have V7 := m_isW (w := W_draw) h.2.2.2.2.1.2.1 h.1.2.2
  rw [if_pos (show isW τ (cstW.getD 7 []) from hw)] at E7
  rw [if_pos hw] at V7
  have ec : fy_Reader_canLine G y R = some (if vN ν 7 = 0 then iI 1 else iI 0) := by
    unfold fy_Reader_canLine
    rw [g0, obs, ck_ok t0, obs, E0, obs, if_pos rfl]
    rw [g1, obs, obs, E1, obs, if_pos rfl]
    rw [g2, obs, obs, E2, obs, if_pos rfl]
    rw [g3, obs, obs, E3, obs, if_pos rfl]
    rw [g4, obs, obs, E4, obs, if_pos rfl]
    rw [g5, obs, obs, E5, obs, if_pos rfl]
    rw [g6, obs, obs, E6, obs, if_pos rfl]
    rw [g7, obs, obs, E7, obs, if_neg (by decide)]
    simp (disch := omega) only [eR, gI_ok tr, hC.2.2.2.1 7 (by omega) (by omega), iI_lit, iI_add, iI_sub, iI_mul, iI_neg, obs, if_true, if_false, Int.reduceEq, Int.reduceLE, Int.reduceLT, Int.reduceAdd, Int.reduceSub, Int.reduceMul, Int.reduceNeg, Nat.reduceEqDiff, iI_le, iI_lt, iI_eq]
    by_cases z : vN ν 7 = 0
    · rw [if_pos z, if_pos z]
    · rw [if_neg z, if_neg z]
  refine ⟨fun z => ?_, fun z => ⟨?_, ?_⟩⟩
  · obtain ⟨y1, s1, k1, ⟨k2, k3, k4⟩, k5, k6, k7, k8, k9⟩ := hd_next hT h hL hw.1
    refine ⟨y1, s1, k6, k7, k8, k9, ?_, ?_⟩
    · generalize hy2 : sF y r 10 (iI (vN ν 10 + 1)) = y2 at *
      have t2 := k2.1.1
      have C0 := c_comes (τ := τ) hT hG k4 k2 k3 h.1.2.2 q0 (cst_lt _ (by decide))
      have D0 := C0.2 (show ¬ isW τ (cstW.getD 0 []) from n0)
      have C1 := c_comes (τ := τ) hT hG k4 k2 k3 h.1.2.2 q1 (cst_lt _ (by decide))
      have D1 := C1.2 (show ¬ isW τ (cstW.getD 1 []) from n1)
      have C2 := c_comes (τ := τ) hT hG k4 k2 k3 h.1.2.2 q2 (cst_lt _ (by decide))
      have D2 := C2.2 (show ¬ isW τ (cstW.getD 2 []) from n2)
      have C3 := c_comes (τ := τ) hT hG k4 k2 k3 h.1.2.2 q3 (cst_lt _ (by decide))
      have D3 := C3.2 (show ¬ isW τ (cstW.getD 3 []) from n3)
      have C4 := c_comes (τ := τ) hT hG k4 k2 k3 h.1.2.2 q4 (cst_lt _ (by decide))
      have D4 := C4.2 (show ¬ isW τ (cstW.getD 4 []) from n4)
      have C5 := c_comes (τ := τ) hT hG k4 k2 k3 h.1.2.2 q5 (cst_lt _ (by decide))
      have D5 := C5.2 (show ¬ isW τ (cstW.getD 5 []) from n5)
      have C6 := c_comes (τ := τ) hT hG k4 k2 k3 h.1.2.2 q6 (cst_lt _ (by decide))
      have D6 := C6.2 (show ¬ isW τ (cstW.getD 6 []) from n6)
      unfold fy_Reader_line
      rw [ck_ok t0, obs, ec, if_pos z, obs, if_neg (by decide), eR, obs, gI_ok tr, hC.2.2.2.1 10 (by omega) (by omega), obs, i1, iI_add, k1, obs]
      rw [g0, obs, ck_ok t2, obs, D0, obs]
      simp only [if_true]
      rw [g1, obs, ck_ok t2, obs, D1, obs]
      simp only [if_true]
      rw [g2, obs, ck_ok t2, obs, D2, obs]
      simp only [if_true]
      rw [g3, obs, ck_ok t2, obs, D3, obs]
      simp only [if_true]
      rw [g4, obs, ck_ok t2, obs, D4, obs]
      simp only [if_true]
      rw [g5, obs, ck_ok t2, obs, D5, obs]
      simp only [if_true]
      rw [g6, obs, ck_ok t2, obs, D6, obs]
      simp only [if_true]
      rw [ck_ok t2, obs, k5, obs]
      all_goals rfl
    · unfold fm_readLine
      rw [cW_water, V0, obs, if_pos rfl]
      unfold fm_readLine_j24
      rw [cW_current, V1, obs, if_pos rfl]
      unfold fm_readLine_j50
      rw [cW_iron, V2, obs, if_pos rfl]
      unfold fm_readLine_j76
      rw [cW_board, V3, obs, if_pos rfl]
      unfold fm_readLine_j101
      rw [cW_load, V4, obs, if_pos rfl]
      unfold fm_readLine_j127
      rw [cW_heat, V5, obs, if_pos rfl]
      unfold fm_readLine_j151
      rw [cW_flood, V6, obs, if_pos rfl]
      unfold fm_readLine_j190
      rw [cW_draw, V7, obs, if_neg (by decide)]
      simp (disch := omega) only [hm53, pI, iI_lit, iI_add, iI_sub, iI_mul, iI_neg, obs, if_true, if_false, Int.reduceEq, Int.reduceLE, Int.reduceLT, Int.reduceAdd, Int.reduceSub, Int.reduceMul, Int.reduceNeg, Nat.reduceEqDiff, iI_le, iI_lt, iI_eq, cW_draw]
      rw [if_pos z]
  · have kk := c_wrong (G := G) h.1.1 h.1.2.1
    have kw := ck_wr h.1.1 (fkT τ) (tP τ)
    unfold fy_Reader_line
    rw [ck_ok t0, obs, ec, if_neg z, obs, if_pos (show iI 0 = (0 : Int32) from rfl), obs, kk, obs, kw, obs]
  · unfold fm_readLine
    rw [cW_water, V0, obs, if_pos rfl]
    unfold fm_readLine_j24
    rw [cW_current, V1, obs, if_pos rfl]
    unfold fm_readLine_j50
    rw [cW_iron, V2, obs, if_pos rfl]
    unfold fm_readLine_j76
    rw [cW_board, V3, obs, if_pos rfl]
    unfold fm_readLine_j101
    rw [cW_load, V4, obs, if_pos rfl]
    unfold fm_readLine_j127
    rw [cW_heat, V5, obs, if_pos rfl]
    unfold fm_readLine_j151
    rw [cW_flood, V6, obs, if_pos rfl]
    unfold fm_readLine_j190
    rw [cW_draw, V7, obs, if_neg (by decide)]
    simp (disch := omega) only [hm53, iI_lit, iI_add, iI_sub, iI_mul, iI_neg, obs, if_true, if_false, Int.reduceEq, Int.reduceLE, Int.reduceLT, Int.reduceAdd, Int.reduceSub, Int.reduceMul, Int.reduceNeg, Nat.reduceEqDiff, iI_le, iI_lt, iI_eq]
    rw [if_neg z]
end N2

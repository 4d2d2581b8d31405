/-! LAYER 3, the lines: no word; all lines (printed by tools/gen_o1.py) -/
set_option maxRecDepth 100000
def bdy (ν : Lv) (τ : Tk) : Prop := vN ν 16 = (if vN ν 10 = 0 then 0 else 1) ∧ (vN ν 10 = 0 → vN ν 17 = 0) ∧ vN ν 10 ≤ tP τ
section O1
variable {G : ai_G} {T : Int → Int} {n : Int} {N0 R A F r : Nat} {O : Nat → Nat} {y y1 : yS} {s s1 : mS} {τ : Tk} {ν : Lv} {bd le : Nat → Nat}
theorem L_none (hT : txO T n) (hG : okW G) (h : LZ G T n N0 R A F r O y s τ ν bd le) (hN : ¬ isW τ W_water ∧ ¬ isW τ W_current ∧ ¬ isW τ W_iron ∧ ¬ isW τ W_board ∧ ¬ isW τ W_load ∧ ¬ isW τ W_heat ∧ ¬ isW τ W_flood ∧ ¬ isW τ W_draw) : LLn G T n N0 R A F r y s τ ν := by
  obtain ⟨n0, n1, n2, n3, n4, n5, n6, n7⟩ := hN
  have t0 := h.1.1.1.1
  obtain ⟨a0, g0, q0⟩ := hG.2.2.1 0 (by omega)
  have E0 := c_isW hT hG h.2.2.1 h.1.1 h.1.2.1 h.1.2.2 q0 (cst_lt _ (by decide))
  have V0 := m_isW (w := W_water) h.2.2.2.2.1.2.1 h.1.2.2
  rw [if_neg (show ¬ isW τ (cstW.getD 0 []) from n0)] at E0
  rw [if_neg n0] at V0
  obtain ⟨a1, g1, q1⟩ := hG.2.2.1 1 (by omega)
  have E1 := c_isW hT hG h.2.2.1 h.1.1 h.1.2.1 h.1.2.2 q1 (cst_lt _ (by decide))
  have V1 := m_isW (w := W_current) h.2.2.2.2.1.2.1 h.1.2.2
  rw [if_neg (show ¬ isW τ (cstW.getD 1 []) from n1)] at E1
  rw [if_neg n1] at V1
  obtain ⟨a2, g2, q2⟩ := hG.2.2.1 2 (by omega)
  have E2 := c_isW hT hG h.2.2.1 h.1.1 h.1.2.1 h.1.2.2 q2 (cst_lt _ (by decide))
  have V2 := m_isW (w := W_iron) h.2.2.2.2.1.2.1 h.1.2.2
  rw [if_neg (show ¬ isW τ (cstW.getD 2 []) from n2)] at E2
  rw [if_neg n2] at V2
  obtain ⟨a3, g3, q3⟩ := hG.2.2.1 3 (by omega)
  have E3 := c_isW hT hG h.2.2.1 h.1.1 h.1.2.1 h.1.2.2 q3 (cst_lt _ (by decide))
  have V3 := m_isW (w := W_board) h.2.2.2.2.1.2.1 h.1.2.2
  rw [if_neg (show ¬ isW τ (cstW.getD 3 []) from n3)] at E3
  rw [if_neg n3] at V3
  obtain ⟨a4, g4, q4⟩ := hG.2.2.1 4 (by omega)
  have E4 := c_isW hT hG h.2.2.1 h.1.1 h.1.2.1 h.1.2.2 q4 (cst_lt _ (by decide))
  have V4 := m_isW (w := W_load) h.2.2.2.2.1.2.1 h.1.2.2
  rw [if_neg (show ¬ isW τ (cstW.getD 4 []) from n4)] at E4
  rw [if_neg n4] at V4
  obtain ⟨a5, g5, q5⟩ := hG.2.2.1 5 (by omega)
  have E5 := c_isW hT hG h.2.2.1 h.1.1 h.1.2.1 h.1.2.2 q5 (cst_lt _ (by decide))
  have V5 := m_isW (w := W_heat) h.2.2.2.2.1.2.1 h.1.2.2
  rw [if_neg (show ¬ isW τ (cstW.getD 5 []) from n5)] at E5
  rw [if_neg n5] at V5
  obtain ⟨a6, g6, q6⟩ := hG.2.2.1 6 (by omega)
  have E6 := c_isW hT hG h.2.2.1 h.1.1 h.1.2.1 h.1.2.2 q6 (cst_lt _ (by decide))
  have V6 := m_isW (w := W_flood) h.2.2.2.2.1.2.1 h.1.2.2
  rw [if_neg (show ¬ isW τ (cstW.getD 6 []) from n6)] at E6
  rw [if_neg n6] at V6
  obtain ⟨a7, g7, q7⟩ := hG.2.2.1 7 (by omega)
  have E7 := c_isW hT hG h.2.2.1 h.1.1 h.1.2.1 h.1.2.2 q7 (cst_lt _ (by decide))
  have V7 := m_isW (w := W_draw) h.2.2.2.2.1.2.1 h.1.2.2
  rw [if_neg (show ¬ isW τ (cstW.getD 7 []) from n7)] at E7
  rw [if_neg n7] at V7
  have ec : fy_Reader_canLine G y R = some 0 := by
    unfold fy_Reader_canLine
    rw [g0, obs, ck_ok t0, obs, E0, obs, if_pos rfl]
    rw [g1, obs, obs, E1, obs, if_pos rfl]
    rw [g2, obs, obs, E2, obs, if_pos rfl]
    rw [g3, obs, obs, E3, obs, if_pos rfl]
    rw [g4, obs, obs, E4, obs, if_pos rfl]
    rw [g5, obs, obs, E5, obs, if_pos rfl]
    rw [g6, obs, obs, E6, obs, if_pos rfl]
    rw [g7, obs, obs, E7, obs, if_pos rfl]
  have kk := c_wrong (G := G) h.1.1 h.1.2.1
  have kw := ck_wr h.1.1 (fkT τ) (tP τ)
  refine L_no hT h ?_ ?_
  · unfold fy_Reader_line
    rw [ck_ok t0, obs, ec, obs, if_pos rfl, obs, kk, obs, kw, obs]
  · unfold fm_readLine
    rw [cW_water, V0, obs, if_pos rfl]
    unfold fm_readLine_j24
    rw [cW_current, V1, obs, if_pos rfl]
    unfold fm_readLine_j50
    rw [cW_iron, V2, obs, if_pos rfl]
    unfold fm_readLine_j76
    rw [cW_board, V3, obs, if_pos rfl]
    unfold fm_readLine_j101
    rw [cW_load, V4, obs, if_pos rfl]
    unfold fm_readLine_j127
    rw [cW_heat, V5, obs, if_pos rfl]
    unfold fm_readLine_j151
    rw [cW_flood, V6, obs, if_pos rfl]
    unfold fm_readLine_j190
    rw [cW_draw, V7, obs, if_pos rfl]
theorem L_line (hT : txO T n) (hG : okW G) (hg : okG G) (h : LZ G T n N0 R A F r O y s τ ν bd le) (hb : bdy ν τ) : LLn G T n N0 R A F r y s τ ν := by
  have tb := h.1.2.2.1
  have hn := hT.1
  have hL : vN ν 10 ≤ 1900 := by have := hb.2.2; omega
  by_cases z0 : isW τ W_water
  · exact L_water hT hG h hL hb.1 hb.2.1 z0
  by_cases z1 : isW τ W_current
  · exact L_current hT hG h hL hb.1 z1
  by_cases z2 : isW τ W_iron
  · exact L_iron hT hG h hL hb.1 z2
  by_cases z3 : isW τ W_board
  · exact L_board hT hG hg h hL hb.1 z3
  by_cases z4 : isW τ W_load
  · exact L_load hT hG hg h hL hb.1 z4
  by_cases z5 : isW τ W_heat
  · exact L_heat hT hG h hL hb.1 z5
  by_cases z6 : isW τ W_flood
  · exact L_flood hT hG h hL hb.1 z6
  by_cases z7 : isW τ W_draw
  · exact L_draw hT hG h hL hb.1 z7
  exact L_none hT hG h ⟨z0, z1, z2, z3, z4, z5, z6, z7⟩
/-- one turn of the reading -/
theorem L_step (hT : txO T n) (hG : okW G) (hg : okG G) (h : LZ G T n N0 R A F r O y s τ ν bd le) (hb : bdy ν τ) (h0 : ¬ tS τ = 0) : (∃ y' s' k p, fy_Reader_read_b4 G R y = some (.inr (.inr (.inl F, y'))) ∧ fm_readAll_b127 s = some (.inl s') ∧ (1 ≤ k ∧ k ≤ 4 ∧ tP τ ≤ p ∧ p ≤ 1600) ∧ (yf y' F 0 = iI k ∧ yf y' F 1 = iI p) ∧ (s'.1 2 = iI k ∧ s'.1 3 = iI p) ∧ kpY N0 F (p - tP τ).toNat (20 * (p - tP τ).toNat) y y' ∧ fr LK LJ s s') ∨ (∃ O' y' s' τ' ν' bd' le', fy_Reader_read_b4 G R y = some (.inl y') ∧ fm_readAll_b127 s = some (.inl s') ∧ LZ G T n N0 R A F r O' y' s' τ' ν' bd' le' ∧ bdy ν' τ' ∧ kpY N0 F (tP τ' - tP τ).toNat (20 * (tP τ' - tP τ).toNat) y y' ∧ tP τ < tP τ' ∧ fr LK LJ s s') := by
  have t0 := h.1.1.1.1
  have sb := so_b h.1.2.2
  have kb := kdT_b (tS τ)
  have m2 := h.2.2.2.2.1.2.2.1
  have m6 := h.2.2.2.2.1.2.1.1
  obtain ⟨mz, em, hz⟩ := L_line hT hG hg h hb
  have eC : fy_Reader_read_b4 G R y = (fy_Reader_line G y R).bind fun p12 => Sum.elim (fun q12 => some (.inr (.inr ((.inl q12 : Nat ⊕ Nat), p12.2)))) (fun _ => (ck 8 p12.2 R).bind fun _ => (fy_Reader_isSignHere G p12.2 R 59).bind fun p19 => (ck 8 p12.2 R).bind fun _ => (fy_Reader_must G p12.2 R p19).bind fun p22 => Sum.elim (fun q22 => some (.inr (.inr ((.inl q22 : Nat ⊕ Nat), p22.2)))) (fun _ => some (.inl p22.2)) p22.1) p12.1 := by
    unfold fy_Reader_read_b4
    rw [gI_ok t0, obs, h.1.2.1.2.2.1, if_neg, ck_ok t0, obs]
    rw [i0, iI_eq (by omega) (by omega) (by omega) (by omega), kdT_0]
    exact h0
  have eM : fm_readAll_b127 s = (mz.bind fm_readLine_j235).bind fun p142 => some (.inl p142) := by
    unfold fm_readAll_b127
    rw [m2, if_pos (show iI 0 = 0 from rfl), m6, if_neg (by rw [i0, iI_eq (by omega) (by omega) (by omega) (by omega)]; exact h0), em]
  rcases hz with ⟨y', s', k, p, e1, e2, e3, e4, e5, e6, e7⟩ | ⟨O', y', s', τ', ν', bd', le', e1, e2, e3, e4, e5, e6, e7⟩
  · left
    refine ⟨y', mSi s' 51 1, k, p, by rw [eC, e1]; rfl, ?_, e3, e4, e5, e6, e7.si rfl⟩
    rw [eM, e2, obs]
    unfold fm_readLine_j235
    have e9 : ¬ (mSi s' 51 1).1 2 = 0 := by
      rw [show (mSi s' 51 1).1 2 = s'.1 2 from rfl, e5.1, i0, iI_eq (by omega) (by omega) (by omega) (by omega)]
      omega
    simp only [pI, obs, if_neg e9]
  · -- a line is read: the sign ';'
    have t1 := e3.1.1.1.1
    have f51 : fr [51] [] s' (mSi s' 51 (iI 1)) := fr.refl.si rfl
    have hM := e3.2.2.2.2.2.1
    have hw := e3.2.2.2.2.2.2
    have h1 : LZ G T n N0 R A F r O' y' (mSi s' 51 (iI 1)) τ' (upN (vN ν') 16 1, vV ν', vW ν', vH ν') bd' le' := by
      obtain ⟨a1, a2, a3, a4, ⟨a5, a6, a7, a8⟩, a9, a10⟩ := e3
      have a4' : CLr G O' r y' (upN (vN ν') 16 1, vV ν', vW ν', vH ν') bd' le' := by
        obtain ⟨u1, u2, u3, u4, u5⟩ := a4
        refine ⟨u1, u2, u3, fun k k1 k2 => ?_, u5⟩
        show _ = iI (upN (vN ν') 16 1 k)
        unfold upN
        rw [if_neg (by omega)]
        exact u4 k k1 k2
      refine ⟨a1, a2, a3, a4', ⟨a5.fr f51 rfl rfl, a6.fr f51 rfl rfl rfl rfl rfl, a7, a8⟩, ?_, ?_⟩
      · obtain ⟨⟨x1, x2, x3, x4, x5, x6, x7, x8, x9, x10⟩, x⟩ := a9
        exact ⟨⟨x1, x2, x3, x4, x5, x6, x7, x8, rfl, x10⟩, x⟩
      · obtain ⟨x1, x2, x3, x4, x5, x6, x7⟩ := a10
        exact ⟨x1, x2, x3, x4, x5, Or.inr rfl, x7⟩
    have tb' := e3.1.2.2.1
    have sb' := so_b e3.1.2.2
    have hn := hT.1
    have es := c_signHere (G := G) hT e3.1.1 e3.1.2.1 e3.1.2.2 (c := 59) (by decide)
    have f1 : fr LK LJ s (mSi s' 51 (iI 1)) := e7.si rfl
    have m2' : (mSi s' 51 (iI 1)).1 2 = iI 0 := h1.2.2.2.2.1.2.2.1
    have m6' : (mSi s' 51 (iI 1)).1 6 = iI (tS τ') := h1.2.2.2.2.1.2.1.1
    by_cases z : tS τ' = 59
    · right
      obtain ⟨y2, k1, k2, k3⟩ := c_must1 (G := G) hT e3.1.1 e3.1.2.1 e3.1.2.2 (by omega)
      obtain ⟨s2, j1, j2, j3⟩ := m_adv hT h1.2.2.2.2.1.1 h1.2.2.2.2.1.2.1 e3.1.2.2 (by omega)
      obtain ⟨tk1, tp1⟩ := tk_ok (T := T) (n := n) (p := tE τ') (by omega) (by omega)
      have hpe : tP τ' < tE τ' := e3.1.2.2.2.2.2.1 (by omega) (by omega)
      rw [if_pos z] at es
      refine ⟨O', y2, s2, tk T n (tE τ'), _, bd', le', ?_, ?_, h1.rd k2 k3 tk1 j2 j3, ⟨?_, ?_, ?_⟩, (e5.trans (k2.kp e3.2.1.2.2.2.2.2.2.2.2.2.1)).mono (by omega) (by omega), by omega, f1.trans (j3.mono rfl rfl)⟩
      · rw [eC, e1, obs]
        simp only [Sum.elim_inr]
        rw [ck_ok t1, obs, show (59 : Int32) = iI 59 from rfl, es, obs, obs, k1, obs]
        rfl
      · rw [eM, e2, obs]
        unfold fm_readLine_j235 pI
        rw [obs, i1, m2', if_pos (show iI 0 = 0 from rfl), m6', z, if_pos (show iI 59 = 59 from rfl), if_pos (show iI 0 = 0 from rfl), j1, obs, obs]
      · have q : vN ν' 10 = vN ν 10 + 1 := e4
        have q2 := h.2.2.2.2.2.2.1.2.2.1.1
        show (1 : Int) = if vN ν' 10 = 0 then 0 else 1
        rw [if_neg (by omega)]
      · intro q
        have q1 : vN ν' 10 = 0 := q
        have q2 : vN ν' 10 = vN ν 10 + 1 := e4
        have q3 := h.2.2.2.2.2.2.1.2.2.1.1
        omega
      · have q2 : vN ν' 10 = vN ν 10 + 1 := e4
        have q3 := hb.2.2
        show vN ν' 10 ≤ _
        omega
    · left
      rw [if_neg z] at es
      have kk := m_wrong (k := 2) h1.2.2.2.2.1.2.1 e3.1.2.2 m2'
      rw [show (if tS τ' = 3 then (1 : Int) else 2) = fkT τ' from rfl] at kk
      have fb := fkT_b τ'
      refine ⟨wrY y' F (fkT τ') (tP τ'), wrM (mSi s' 51 (iI 1)) (fkT τ') (tP τ'), fkT τ', tP τ', ?_, ?_, ⟨by omega, by omega, by omega, by omega⟩, wr_get, ⟨rfl, rfl⟩, (e5.trans kp_wr).mono (by omega) (by omega), f1.trans (wrM_fr.mono rfl rfl)⟩
      · rw [eC, e1, obs]
        simp only [Sum.elim_inr]
        rw [ck_ok t1, obs, show (59 : Int32) = iI 59 from rfl, es, obs, obs, c_must0 e3.1.1 e3.1.2.1, obs]
        rfl
      · rw [eM, e2, obs]
        unfold fm_readLine_j235 pI
        rw [obs, i1, m2', if_pos (show iI 0 = 0 from rfl), m6', if_neg (by rw [show (59 : Int32) = iI 59 from rfl, iI_eq (by omega) (by omega) (by omega) (by omega)]; exact z), show (2 : Int32) = iI 2 from rfl, kk, obs, if_neg, obs]
        rw [show (wrM (mSi s' 51 (iI 1)) (fkT τ') (tP τ')).1 2 = iI (fkT τ') from rfl, i0, iI_eq (by omega) (by omega) (by omega) (by omega)]
        omega
/-- all lines -/
theorem L_all (hT : txO T n) (hG : okW G) (hg : okG G) : ∀ (m : Nat) (O : Nat → Nat) (y : yS) (s : mS) (τ : Tk) (ν : Lv) (bd le : Nat → Nat), (1601 - tP τ).toNat ≤ m → LZ G T n N0 R A F r O y s τ ν bd le → bdy ν τ → (∃ y' s' k p, lp (fy_Reader_read_b4 G R) y = some (.inr (.inl F, y')) ∧ lp fm_readAll_b127 s = some s' ∧ (1 ≤ k ∧ k ≤ 4 ∧ 0 ≤ p ∧ p ≤ 1600) ∧ (yf y' F 0 = iI k ∧ yf y' F 1 = iI p) ∧ (s'.1 2 = iI k ∧ s'.1 3 = iI p) ∧ kpY N0 F (1600 - tP τ).toNat (20 * (1600 - tP τ).toNat) y y' ∧ fr LK LJ s s') ∨ (∃ O' y' s' τ' ν' bd' le', lp (fy_Reader_read_b4 G R) y = some (.inl y') ∧ lp fm_readAll_b127 s = some s' ∧ LZ G T n N0 R A F r O' y' s' τ' ν' bd' le' ∧ kpY N0 F (1600 - tP τ).toNat (20 * (1600 - tP τ).toNat) y y' ∧ fr LK LJ s s') := by
  intro m
  have hn := hT.1
  induction m with
  | zero =>
    intro O y s τ ν bd le hm h hb
    have tb := h.1.2.2.1
    omega
  | succ m ih =>
    intro O y s τ ν bd le hm h hb
    have tb := h.1.2.2.1
    by_cases h0 : tS τ = 0
    · right
      refine ⟨O, y, s, τ, ν, bd, le, lp_out ?_, lp_out ?_, h, kpY.refl.mono (by omega) (by omega), fr.refl⟩
      · unfold fy_Reader_read_b4
        rw [gI_ok h.1.1.1.1, obs, h.1.2.1.2.2.1, h0, if_pos (show iI (kdT 0) = 0 from rfl)]
      · unfold fm_readAll_b127
        rw [h.2.2.2.2.1.2.2.1, if_pos (show iI 0 = 0 from rfl), h.2.2.2.2.1.2.1.1, h0, if_pos (show iI 0 = 0 from rfl)]
    · rcases L_step hT hG hg h hb h0 with ⟨y', s', k, p, e1, e2, e3, e4, e5, e6, e7⟩ | ⟨O', y', s', τ', ν', bd', le', e1, e2, e3, e4, e5, e6, e7⟩
      · left
        refine ⟨y', s', k, p, lp_out e1, ?_, ⟨e3.1, e3.2.1, by omega, e3.2.2.2⟩, e4, e5, e6.mono (by omega) (by omega), e7⟩
        rw [lp_back e2]
        refine lp_out ?_
        unfold fm_readAll_b127
        rw [if_neg]
        rw [e5.1, i0, iI_eq (by omega) (by omega) (by omega) (by omega)]
        omega
      · have tb' := e3.1.2.2.1
        rcases ih O' y' s' τ' ν' bd' le' (by omega) e3 e4 with ⟨y2, s2, k, p, q1, q2, q3, q4, q5, q6, q7⟩ | ⟨O2, y2, s2, τ2, ν2, bd2, le2, q1, q2, q3, q4, q5⟩
        · left
          exact ⟨y2, s2, k, p, (lp_back e1).trans q1, (lp_back e2).trans q2, q3, q4, q5, (e5.trans q6).mono (by omega) (by omega), e7.trans q7⟩
        · right
          exact ⟨O2, y2, s2, τ2, ν2, bd2, le2, (lp_back e1).trans q1, (lp_back e2).trans q2, q3, (e5.trans q4).mono (by omega) (by omega), e7.trans q5⟩
end O1

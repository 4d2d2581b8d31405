/-! LAYER 3, the lines: water, flood, draw -/
set_option maxRecDepth 100000
/-- a line, both sides -/
def LLn (G : ai_G) (T : Int → Int) (n : Int) (N0 R A F r : Nat) (y : yS) (s : mS) (τ : Tk) (ν : Lv) : Prop := ∃ mz, fm_readLine s = mz.bind fm_readLine_j235 ∧ (LBad N0 F y s (tP τ) (fy_Reader_line G y R) mz ∨ LOk G T n N0 R A F r y s (tP τ) (fy_Reader_line G y R) mz (fun ν' => vN ν' 10 = vN ν 10 + 1))
section N3
variable {G : ai_G} {T : Int → Int} {n : Int} {N0 R A F r : Nat} {O : Nat → Nat} {y : yS} {s : mS} {τ : Tk} {ν : Lv} {bd ld : Nat → Nat}
theorem RB_set {a k : Nat} {v : Int32} (h : RB T n R A F r y) (hc : CT y R τ) (hr : ¬ R = a) : RB T n R A F r (sF y a k v) ∧ CT (sF y a k v) R τ := by
  refine ⟨⟨h.1, ⟨h.2.1.1, ?_, h.2.1.2.2.1, h.2.1.2.2.2⟩, h.2.2⟩, ?_⟩
  · rw [sF_get, if_neg (by omega)]; exact h.2.1.2.1
  · unfold CT
    rw [sF_get, if_neg (by omega), sF_get, if_neg (by omega), sF_get, if_neg (by omega), sF_get, if_neg (by omega)]
    exact hc
theorem kp_sF {a k : Nat} {v : Int32} (ha : N0 ≤ a) : kpY N0 F 0 0 y (sF y a k v) := by
  refine ⟨⟨Nat.le_refl _, Nat.le_refl _, Nat.le_refl _⟩, fun q hq => ⟨rfl, rfl, rfl, rfl, rfl, fun _ => ?_⟩⟩
  funext j
  rw [sF_get, if_neg (by omega)]
theorem L_no (hT : txO T n) (h : LZ G T n N0 R A F r O y s τ ν bd ld) (h1 : fy_Reader_line G y R = some (.inl F, wrY y F (fkT τ) (tP τ))) (h2 : fm_readLine s = fm_readLine_j230 s) : LLn G T n N0 R A F r y s τ ν := by
  have kk := m_wrong (k := 2) h.2.2.2.2.1.2.1 h.1.2.2 h.2.2.2.2.1.2.2.1
  rw [show (if tS τ = 3 then (1 : Int) else 2) = fkT τ from rfl] at kk
  have fb := fkT_b τ
  refine ⟨some (wrM s (fkT τ) (tP τ)), ?_, Or.inl (LBad.mk (k := fkT τ) h.1.2.2 hT h1 rfl rfl rfl (by omega) kpY.refl (wrM_fr.mono rfl rfl) (Int.le_refl _) (by omega) (by omega))⟩
  rw [h2]
  unfold fm_readLine_j230
  rw [show (2 : Int32) = iI 2 from rfl, kk]
theorem L_water (hT : txO T n) (hG : okW G) (h : LZ G T n N0 R A F r O y s τ ν bd ld) (hL : vN ν 10 ≤ 1900) (h16 : vN ν 16 = if vN ν 10 = 0 then 0 else 1) (h17 : vN ν 10 = 0 → vN ν 17 = 0) (hw : isW τ W_water) : LLn G T n N0 R A F r y s τ ν := by
  obtain ⟨H1, H2⟩ := hd_water hT hG h hL h16 hw
  by_cases cz : vN ν 10 = 0
  · obtain ⟨y1, s1, k1, h1, k2, f1, eC, eM⟩ := H1 cz
    rw [if_pos cz] at h16
    have hpe : tP τ < tE τ := h.1.2.2.2.2.2.1 (by have := hw.1; omega) (by have := hw.1; omega)
    have tb := h.1.2.2.1
    obtain ⟨tk1, tp1⟩ := tk_ok (T := T) (n := n) (p := tE τ) (by omega) (by omega)
    have t1 := h1.1.1.1.1
    have eR : gR 8 3 y1 R = some r := gR_ok t1 h1.1.1.2.1.2.2.2
    refine ⟨fm_readWater s, eM, ?_⟩
    rw [eC]
    unfold fm_readWater
    rw [k1, obs, eR, obs, ck_ok t1, obs]
    simp only [show (1 : Int32) = iI 1 from rfl, show (8 : Int32) = iI 8 from rfl, show (6 : Int32) = iI 6 from rfl]
    rcases h1.num hT (a := 1) (b := 8) (by omega) (by omega) with ⟨q0, y2, s2, q1, q2, h2, q4, q5, q6, q7⟩ | ⟨k, v, q1, q2, q3⟩
    · rw [q1, q2, obs, obs]
      simp only [Sum.elim_inr, pI, obs]
      obtain ⟨tk2, tp2⟩ := tk_ok (T := T) (n := n) (p := tE (tk T n (tE τ))) (by have := tk1.1; omega) (by have := tk1.1; omega)
      generalize tN (tk T n (tE τ)) = v at *
      have hm2 := h2.2.2.2.2.2.1
      obtain ⟨⟨w8, w9, w10, w11⟩, wz, wb, wl, wh, w16, w0⟩ := h2.2.2.2.2.2.2
      have z0 := w0 (h17 cz)
      obtain ⟨u1, h3, u3⟩ := h2.set (K := [38]) (J := []) (k := 8) (by omega) (by omega) v (s1 := mSi s2 38 (iI v)) (fr.refl.si rfl) rfl rfl ⟨⟨rfl, hm2.1.2.1, hm2.1.2.2⟩, hm2.2⟩ ⟨⟨q6, w9, w10, w11⟩, wz, fun b b1 b2 => (by have q : b < vN ν 0 := b2; have q2 : vN ν 0 = 0 := z0.1; omega), wl, wh, w16, w0⟩
      rw [u1, obs]
      have t3 := h3.1.1.1.1
      obtain ⟨a8, g8, c8⟩ := hG.2.2.1 8 (by omega)
      rw [gR_ok t3 h3.1.1.2.1.2.2.2, obs, g8, obs, ck_ok t3, obs, cW_by]
      rcases h3.told hT hG c8 (cst_lt _ (by decide)) (lo := 1) (hi := 6) (by omega) (by omega) with ⟨y4, s4, τ4, v2, e1, e2, h4, e4, e5, e6, e7⟩ | ⟨y4, s4, kk, p, v2, e1, e2, e3, e4, e5, e6, e7⟩
      · right
        have hm4 := h4.2.2.2.2.2.1
        obtain ⟨⟨x8, x9, x10, x11⟩, xz, xb, xl, xh, x16, x0⟩ := h4.2.2.2.2.2.2
        obtain ⟨v1, h5, v3⟩ := h4.set (K := [39]) (J := []) (k := 9) (by omega) (by omega) v2 (s1 := mSi s4 39 (iI v2)) (fr.refl.si rfl) rfl rfl ⟨⟨hm4.1.1, rfl, hm4.1.2.2⟩, hm4.2⟩ ⟨⟨x8, e6, x10, x11⟩, fun z z1 z2 => ⟨(xz z z1 z2).1, (xz z z1 z2).2.1, (xz z z1 z2).2.2.1, (xz z z1 z2).2.2.2.1, fun _ => z0.2 z z1 z2⟩, xb, xl, xh, x16, x0⟩
        refine ⟨O, sF y4 r 9 (iI v2), mSi s4 39 (iI v2), τ4, _, bd, ld, ?_, ?_, h5, rfl, ((((k2.trans q4).trans u3).trans e4).trans v3).mono (by omega) (by omega), by omega, ?_⟩
        · rw [e1, obs]
          simp only [Sum.elim_inr]
          rw [v1, obs]
        · rw [show (fm_told (mSi s2 38 (iI v)) (wcd W_by) (iI 1) (iI 6)) = some (iI v2, s4) from e2, obs]
        · exact ((((f1.mono rfl rfl).trans (q5.mono rfl rfl)).si rfl).trans (e5.mono rfl rfl)).si rfl
      · left
        refine ⟨y4, mSi s4 39 v2, kk, p, ?_, ?_, ⟨e3.1, e3.2.1, by omega, e3.2.2.2⟩, e4, e5, (((k2.trans q4).trans u3).trans e6).mono (by omega) (by omega), ((((f1.mono rfl rfl).trans (q5.mono rfl rfl)).si rfl).trans (e7.mono rfl rfl)).si rfl⟩
        · rw [e1, obs]
          rfl
        · rw [show (fm_told (mSi s2 38 (iI v)) (wcd W_by) (iI 1) (iI 6)) = some (v2, s4) from e2, obs]
    · left
      have e2 : (mSi (wrM s1 k (tP (tk T n (tE τ)))) 38 v).1 2 = iI k := rfl
      have ew := m_wantF (s := mSi (wrM s1 k (tP (tk T n (tE τ)))) 38 v) (k := k) rfl q1 25209
      have en := m_numF (s := mSi (wrM s1 k (tP (tk T n (tE τ)))) 38 v) (k := k) rfl q1 (iI 1) (iI 6)
      refine LBad.mk (k := k) (τ := tk T n (tE τ)) (y1 := y1) (s1 := mSi (mSi (wrM s1 k (tP (tk T n (tE τ)))) 38 v) 39 (iI 0)) tk1 hT ?_ ?_ rfl rfl q1 k2 ?_ (by omega) (by omega) (by omega)
      · rw [q2, obs]
        rfl
      · rw [q3, obs]
        simp only [pI, obs, fm_told, ew, en]
      · exact (((f1.mono rfl rfl).trans (wrM_fr.mono rfl rfl)).si rfl).si rfl
  · obtain ⟨e1, e2⟩ := H2 cz
    exact L_no hT h e1 e2
theorem L_flood (hT : txO T n) (hG : okW G) (h : LZ G T n N0 R A F r O y s τ ν bd ld) (hL : vN ν 10 ≤ 1900) (h16 : vN ν 16 = if vN ν 10 = 0 then 0 else 1) (hw : isW τ W_flood) : LLn G T n N0 R A F r y s τ ν := by
  obtain ⟨H1, H2⟩ := hd_flood hT hG h hL h16 hw
  by_cases cz : vN ν 6 = 0
  · obtain ⟨y1, s1, k1, h1, k2, f1, eC, eM⟩ := H1 cz
    have hpe : tP τ < tE τ := h.1.2.2.2.2.2.1 (by have := hw.1; omega) (by have := hw.1; omega)
    have tb := h.1.2.2.1
    obtain ⟨tk1, tp1⟩ := tk_ok (T := T) (n := n) (p := tE τ) (by omega) (by omega)
    have t1 := h1.1.1.1.1
    have eR : gR 8 3 y1 R = some r := gR_ok t1 h1.1.1.2.1.2.2.2
    have f52 : fr [52] [] s (mSi s 52 (iI 1)) := fr.refl.si rfl
    obtain ⟨s2, j1, j2, j3⟩ := (m_want (w := W_flood) hT (h.2.2.2.2.1.1.fr f52 rfl rfl) (h.2.2.2.2.1.2.1.fr f52 rfl rfl rfl rfl rfl) h.1.2.2 h.2.2.2.2.1.2.2.1).1 hw
    have f2 : fr [52, 4, 6, 7, 8, 100] [] s s2 := (f52.mono rfl rfl).trans (j3.mono rfl rfl)
    have hm := h.2.2.2.2.2.1
    have hm2 : ML s2 (upN (upN (vN ν) 10 (vN ν 10 + 1)) 6 1, vV ν, vW ν, vH ν) := ML.fr (K := [4, 6, 7, 8, 100]) (J := []) (s := mSi s 52 (iI 1)) ⟨⟨hm.1.1, hm.1.2.1, hm.1.2.2.1, hm.1.2.2.2.1, hm.1.2.2.2.2.1, hm.1.2.2.2.2.2.1, hm.1.2.2.2.2.2.2.1, hm.1.2.2.2.2.2.2.2.1, hm.1.2.2.2.2.2.2.2.2.1, rfl, hm.1.2.2.2.2.2.2.2.2.2.2.1, hm.1.2.2.2.2.2.2.2.2.2.2.2.1, hm.1.2.2.2.2.2.2.2.2.2.2.2.2⟩, hm.2⟩ j3 rfl rfl
    obtain ⟨⟨w8, w9, w10, w11, w12, w13, w6, w7, w14, w15, w00⟩, w⟩ := h1.2.2.2.2.2.2
    have tr1 := h1.2.2.2.1.1.1
    have hz : wZ 1 6 y1 r 1 = some (sF y1 r 6 (iI 1)) := if_pos ⟨tr1, Or.inr rfl⟩
    obtain ⟨r1, r2⟩ := RB_set (k := 6) (v := iI 1) h1.1.1 h1.1.2.1 h1.2.1.2.2.2.2.2.2.2.2.2.2.2
    have h2 : LZ G T n N0 R A F r O (sF y1 r 6 (iI 1)) s2 (tk T n (tE τ)) (upN (upN (vN ν) 10 (vN ν 10 + 1)) 6 1, vV ν, vW ν, vH ν) bd ld := ⟨⟨r1, r2, tk1⟩, h1.2.1, h1.2.2.1, h1.2.2.2.1.set h1.2.1 (by omega) (by omega) 1, ⟨MX.fr (K := [52, 4, 6, 7, 8, 100]) (J := []) h.2.2.2.2.1.1 f2 rfl rfl, j2, by rw [f2.s 2 rfl]; exact h.2.2.2.2.1.2.2.1, by rw [f2.s 3 rfl]; exact h.2.2.2.2.1.2.2.2⟩, hm2, ⟨⟨w8, w9, w10, w11, w12, w13, Or.inr rfl, w7, w14, w15, w00⟩, w⟩⟩
    have k3 : kpY N0 F 0 0 y (sF y1 r 6 (iI 1)) := (k2.trans (kp_sF h1.2.1.2.2.2.2.2.2.2.2.2.2.1)).mono (by omega) (by omega)
    generalize hy2 : sF y1 r 6 (iI 1) = y2 at *
    have t2 := h2.1.1.1.1
    have eC2 : fy_Reader_line G y R = (fy_Reader_number G y2 R (iI 0) (iI 100)).bind fun p => Sum.elim (fun q => some ((.inl q : Nat ⊕ Unit), p.2)) (fun v => (wI 1 14 p.2 r v).bind fun s190 => some ((.inr () : Nat ⊕ Unit), s190)) p.1 := by
      rw [eC, eR, obs, hz, obs, gR_ok t2 h2.1.1.2.1.2.2.2, obs, ck_ok t2, obs]
      rfl
    have eM2 : fm_readLine s = ((fm_toldNumber s2 (iI 0) (iI 100)).bind fun p => some (mSi p.2 44 p.1)).bind fm_readLine_j235 := by
      rw [eM]
      unfold fm_told
      rw [j1, obs, show (0 : Int32) = iI 0 from rfl, show (100 : Int32) = iI 100 from rfl]
      cases fm_toldNumber s2 (iI 0) (iI 100) with
      | none => rfl
      | some p => rfl
    refine ⟨_, eM2, ?_⟩
    rw [eC2]
    rcases h2.num hT (a := 0) (b := 100) (by omega) (by omega) with ⟨q0, y3, s3, q1, q2, h3, q4, q5, q6, q7⟩ | ⟨k, v, q1, q2, q3⟩
    · right
      obtain ⟨tk2, tp2⟩ := tk_ok (T := T) (n := n) (p := tE (tk T n (tE τ))) (by have := tk1.1; omega) (by have := tk1.1; omega)
      rw [q1, q2, obs, obs]
      simp only [Sum.elim_inr]
      generalize tN (tk T n (tE τ)) = v at *
      have hm3 := h3.2.2.2.2.2.1
      obtain ⟨⟨x8, x9, x10, x11, x12, x13, x6, x7, x14, x15, x00⟩, x⟩ := h3.2.2.2.2.2.2
      obtain ⟨v1, h5, v3⟩ := h3.set (K := [44]) (J := []) (k := 14) (by omega) (by omega) v (s1 := mSi s3 44 (iI v)) (fr.refl.si rfl) rfl rfl ⟨⟨hm3.1.1, hm3.1.2.1, hm3.1.2.2.1, hm3.1.2.2.2.1, hm3.1.2.2.2.2.1, hm3.1.2.2.2.2.2.1, rfl, hm3.1.2.2.2.2.2.2.2.1, hm3.1.2.2.2.2.2.2.2.2.1, hm3.1.2.2.2.2.2.2.2.2.2.1, hm3.1.2.2.2.2.2.2.2.2.2.2.1, hm3.1.2.2.2.2.2.2.2.2.2.2.2.1, hm3.1.2.2.2.2.2.2.2.2.2.2.2.2⟩, hm3.2⟩ ⟨⟨x8, x9, x10, x11, x12, x13, x6, x7, q6, x15, x00⟩, x⟩
      refine ⟨O, _, _, _, _, bd, ld, by rw [v1, obs], rfl, h5, rfl, ((k3.trans q4).trans v3).mono (by omega) (by omega), by omega, ((f2.mono rfl rfl).trans (q5.mono rfl rfl)).si rfl⟩
    · left
      refine LBad.mk (k := k) (τ := tk T n (tE τ)) (y1 := y2) (s1 := mSi (wrM s2 k (tP (tk T n (tE τ)))) 44 v) tk1 hT ?_ ?_ rfl rfl q1 k3 (((f2.mono rfl rfl).trans (wrM_fr.mono rfl rfl)).si rfl) (by omega) (by omega) (by omega)
      · rw [q2, obs]
        rfl
      · rw [q3, obs]
  · obtain ⟨e1, e2⟩ := H2 cz
    exact L_no hT h e1 e2
theorem L_draw (hT : txO T n) (hG : okW G) (h : LZ G T n N0 R A F r O y s τ ν bd ld) (hL : vN ν 10 ≤ 1900) (h16 : vN ν 16 = if vN ν 10 = 0 then 0 else 1) (hw : isW τ W_draw) : LLn G T n N0 R A F r y s τ ν := by
  obtain ⟨H1, H2⟩ := hd_draw hT hG h hL h16 hw
  by_cases cz : vN ν 7 = 0
  · obtain ⟨y1, s1, k1, h1, k2, f1, eC, eM⟩ := H1 cz
    have hpe : tP τ < tE τ := h.1.2.2.2.2.2.1 (by have := hw.1; omega) (by have := hw.1; omega)
    have tb := h.1.2.2.1
    obtain ⟨tk1, tp1⟩ := tk_ok (T := T) (n := n) (p := tE τ) (by omega) (by omega)
    have t1 := h1.1.1.1.1
    have eR : gR 8 3 y1 R = some r := gR_ok t1 h1.1.1.2.1.2.2.2
    have f52 : fr [53] [] s (mSi s 53 (iI 1)) := fr.refl.si rfl
    obtain ⟨s2, j1, j2, j3⟩ := (m_want (w := W_draw) hT (h.2.2.2.2.1.1.fr f52 rfl rfl) (h.2.2.2.2.1.2.1.fr f52 rfl rfl rfl rfl rfl) h.1.2.2 h.2.2.2.2.1.2.2.1).1 hw
    have f2 : fr [53, 4, 6, 7, 8, 100] [] s s2 := (f52.mono rfl rfl).trans (j3.mono rfl rfl)
    have hm := h.2.2.2.2.2.1
    have hm2 : ML s2 (upN (upN (vN ν) 10 (vN ν 10 + 1)) 7 1, vV ν, vW ν, vH ν) := ML.fr (K := [4, 6, 7, 8, 100]) (J := []) (s := mSi s 53 (iI 1)) ⟨⟨hm.1.1, hm.1.2.1, hm.1.2.2.1, hm.1.2.2.2.1, hm.1.2.2.2.2.1, hm.1.2.2.2.2.2.1, hm.1.2.2.2.2.2.2.1, hm.1.2.2.2.2.2.2.2.1, hm.1.2.2.2.2.2.2.2.2.1, hm.1.2.2.2.2.2.2.2.2.2.1, rfl, hm.1.2.2.2.2.2.2.2.2.2.2.2.1, hm.1.2.2.2.2.2.2.2.2.2.2.2.2⟩, hm.2⟩ j3 rfl rfl
    obtain ⟨⟨w8, w9, w10, w11, w12, w13, w6, w7, w14, w15, w00⟩, w⟩ := h1.2.2.2.2.2.2
    have tr1 := h1.2.2.2.1.1.1
    have hz : wZ 1 7 y1 r 1 = some (sF y1 r 7 (iI 1)) := if_pos ⟨tr1, Or.inr rfl⟩
    obtain ⟨r1, r2⟩ := RB_set (k := 7) (v := iI 1) h1.1.1 h1.1.2.1 h1.2.1.2.2.2.2.2.2.2.2.2.2.2
    have h2 : LZ G T n N0 R A F r O (sF y1 r 7 (iI 1)) s2 (tk T n (tE τ)) (upN (upN (vN ν) 10 (vN ν 10 + 1)) 7 1, vV ν, vW ν, vH ν) bd ld := ⟨⟨r1, r2, tk1⟩, h1.2.1, h1.2.2.1, h1.2.2.2.1.set h1.2.1 (by omega) (by omega) 1, ⟨MX.fr (K := [53, 4, 6, 7, 8, 100]) (J := []) h.2.2.2.2.1.1 f2 rfl rfl, j2, by rw [f2.s 2 rfl]; exact h.2.2.2.2.1.2.2.1, by rw [f2.s 3 rfl]; exact h.2.2.2.2.1.2.2.2⟩, hm2, ⟨⟨w8, w9, w10, w11, w12, w13, w6, Or.inr rfl, w14, w15, w00⟩, w⟩⟩
    have k3 : kpY N0 F 0 0 y (sF y1 r 7 (iI 1)) := (k2.trans (kp_sF h1.2.1.2.2.2.2.2.2.2.2.2.2.1)).mono (by omega) (by omega)
    generalize hy2 : sF y1 r 7 (iI 1) = y2 at *
    have t2 := h2.1.1.1.1
    have eC2 : fy_Reader_line G y R = (fy_Reader_number G y2 R (iI 0) (iI 999)).bind fun p => Sum.elim (fun q => some ((.inl q : Nat ⊕ Unit), p.2)) (fun v => (wI 1 15 p.2 r v).bind fun s190 => some ((.inr () : Nat ⊕ Unit), s190)) p.1 := by
      rw [eC, eR, obs, hz, obs, gR_ok t2 h2.1.1.2.1.2.2.2, obs, ck_ok t2, obs]
      rfl
    have eM2 : fm_readLine s = ((fm_toldNumber s2 (iI 0) (iI 999)).bind fun p => some (mSi p.2 45 p.1)).bind fm_readLine_j235 := by
      rw [eM]
      unfold fm_told
      rw [j1, obs, show (0 : Int32) = iI 0 from rfl, show (999 : Int32) = iI 999 from rfl]
      cases fm_toldNumber s2 (iI 0) (iI 999) with
      | none => rfl
      | some p => rfl
    refine ⟨_, eM2, ?_⟩
    rw [eC2]
    rcases h2.num hT (a := 0) (b := 999) (by omega) (by omega) with ⟨q0, y3, s3, q1, q2, h3, q4, q5, q6, q7⟩ | ⟨k, v, q1, q2, q3⟩
    · right
      obtain ⟨tk2, tp2⟩ := tk_ok (T := T) (n := n) (p := tE (tk T n (tE τ))) (by have := tk1.1; omega) (by have := tk1.1; omega)
      rw [q1, q2, obs, obs]
      simp only [Sum.elim_inr]
      generalize tN (tk T n (tE τ)) = v at *
      have hm3 := h3.2.2.2.2.2.1
      obtain ⟨⟨x8, x9, x10, x11, x12, x13, x6, x7, x14, x15, x00⟩, x⟩ := h3.2.2.2.2.2.2
      obtain ⟨v1, h5, v3⟩ := h3.set (K := [45]) (J := []) (k := 15) (by omega) (by omega) v (s1 := mSi s3 45 (iI v)) (fr.refl.si rfl) rfl rfl ⟨⟨hm3.1.1, hm3.1.2.1, hm3.1.2.2.1, hm3.1.2.2.2.1, hm3.1.2.2.2.2.1, hm3.1.2.2.2.2.2.1, hm3.1.2.2.2.2.2.2.1, rfl, hm3.1.2.2.2.2.2.2.2.2.1, hm3.1.2.2.2.2.2.2.2.2.2.1, hm3.1.2.2.2.2.2.2.2.2.2.2.1, hm3.1.2.2.2.2.2.2.2.2.2.2.2.1, hm3.1.2.2.2.2.2.2.2.2.2.2.2.2⟩, hm3.2⟩ ⟨⟨x8, x9, x10, x11, x12, x13, x6, x7, x14, q6, x00⟩, x⟩
      refine ⟨O, _, _, _, _, bd, ld, by rw [v1, obs], rfl, h5, rfl, ((k3.trans q4).trans v3).mono (by omega) (by omega), by omega, ((f2.mono rfl rfl).trans (q5.mono rfl rfl)).si rfl⟩
    · left
      refine LBad.mk (k := k) (τ := tk T n (tE τ)) (y1 := y2) (s1 := mSi (wrM s2 k (tP (tk T n (tE τ)))) 45 v) tk1 hT ?_ ?_ rfl rfl q1 k3 (((f2.mono rfl rfl).trans (wrM_fr.mono rfl rfl)).si rfl) (by omega) (by omega) (by omega)
      · rw [q2, obs]
        rfl
      · rw [q3, obs]
  · obtain ⟨e1, e2⟩ := H2 cz
    exact L_no hT h e1 e2
end N3

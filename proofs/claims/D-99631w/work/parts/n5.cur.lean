/-! LAYER 3, the lines: current, iron -/
set_option maxRecDepth 100000
section N5
variable {G : ai_G} {T : Int → Int} {n : Int} {N0 R A F r : Nat} {O : Nat → Nat} {y : yS} {s : mS} {τ : Tk} {ν : Lv} {bd le : Nat → Nat}
theorem m_cellF10 {k : Int} (h2 : s.1 2 = iI k) (hk : 1 ≤ k ∧ k ≤ 4) (a b : Int32) : ∃ v, fm_readCell_10 s a b = some (v, s) := by
  refine ⟨8 * iI 0 + iI 0, ?_⟩
  unfold fm_readCell_10
  rw [m_numF h2 hk, obs]
  simp only
  rw [h2, if_neg (by rw [i0, iI_eq (by omega) (by omega) (by omega) (by omega)]; omega)]
  unfold fm_readCell_10_j64
  rw [m_numF h2 hk, obs]
theorem LZ.arrs {y1 : yS} {s1 : mS} {N' : Nat → Int} {V' : Nat → Int → Int} {K J L : List Nat} (h : LZ G T n N0 R A F r O y s τ ν bd le) (hCT : CT y1 R τ) (hRB : RB T n R A F r y1) (f : yF O L 0 0 y y1) (hC : CLr G O r y1 (N', V', vW ν, vH ν) bd le) (g : fr K J s s1) (hK : K.all (fun k => !([2, 3, 4, 5, 6, 7, 8, 100].contains k)) = true) (hJ : J.contains 1 = false) (hm : ML s1 (N', V', vW ν, vH ν)) (hw : wfL (N', V', vW ν, vH ν)) : LZ G T n N0 R A F r O y1 s1 τ (N', V', vW ν, vH ν) bd le := by
  obtain ⟨⟨a1, a2, a3⟩, b, cc, dd, ⟨e1, e2, e3, e4⟩, ff, gg⟩ := h
  exact ⟨⟨hRB, hCT, a3⟩, b, cc.fr f, hC, ⟨e1.fr g (off_all hK rfl) hJ, e2.fr g (off_all hK rfl) (off_all hK rfl) (off_all hK rfl) (off_all hK rfl) (off_all hK rfl), by rw [g.s 2 (off_all hK rfl)]; exact e3, by rw [g.s 3 (off_all hK rfl)]; exact e4⟩, hm, hw⟩
theorem RB_w {a i : Nat} {v : Int32} (h : RB T n R A F r y) (hc : CT y R τ) (hA : ¬ A = a) : RB T n R A F r (yw y a i v) ∧ CT (yw y a i v) R τ := by
  refine ⟨⟨h.1, h.2.1, ⟨h.2.2.1.1, ?_⟩, h.2.2.2⟩, hc⟩
  rw [yw_ne hA]
  exact h.2.2.1.2
theorem L_current (hT : txO T n) (hG : okW G) (h : LZ G T n N0 R A F r O y s τ ν bd le) (hL : vN ν 10 ≤ 1900) (h16 : vN ν 16 = if vN ν 10 = 0 then 0 else 1) (hw : isW τ W_current) : LLn G T n N0 R A F r y s τ ν := by
  obtain ⟨H1, H2⟩ := hd_current hT hG h hL h16 hw
  by_cases cz : vN ν 11 < 16
  · obtain ⟨y1, s1, k1, h1, k2, f1, eC, eM⟩ := H1 cz
    have hpe : tP τ < tE τ := h.1.2.2.2.2.2.1 (by have := hw.1; omega) (by have := hw.1; omega)
    have tb := h.1.2.2.1
    obtain ⟨tk1, tp1⟩ := tk_ok (T := T) (n := n) (p := tE τ) (by omega) (by omega)
    have t1 := h1.1.1.1.1
    refine ⟨fm_readCurrent s, eM, ?_⟩
    rw [eC]
    unfold fm_readCurrent fy_Reader_current
    rw [k1, obs, ck_ok t1, obs, obs]
    simp only [show (0 : Int32) = iI 0 from rfl, show (7 : Int32) = iI 7 from rfl, cW_at, show (1 : Int32) = iI 1 from rfl]
    rcases h1.num hT (a := 0) (b := 7) (by omega) (by omega) with ⟨q0, y2, s2, q1, q2, h2, q4, q5, q6, q7⟩ | ⟨k, v, q1, q2, q3⟩
    · rw [q1, q2, obs, obs]
      simp only [Sum.elim_inr]
      obtain ⟨tk2, tp2⟩ := tk_ok (T := T) (n := n) (p := tE (tk T n (tE τ))) (by have := tk1.1; omega) (by have := tk1.1; omega)
      generalize hmu : tN (tk T n (tE τ)) = mu at *
      obtain ⟨a9, g9, c9⟩ := hG.2.2.1 9 (by omega)
      have t2 := h2.1.1.1.1
      rw [g9, obs, ck_ok t2, obs]
      rcases h2.word hT hG c9 (cst_lt _ (by decide)) with ⟨z, y3, s3, ⟨e1, e2⟩, e3, h3, k3, f3, tp⟩ | ⟨z, ⟨e1, e2⟩, e3⟩
      · rw [show fm_want s2 (wcd W_at) = some s3 from e3, e1, obs, obs, obs, e2, obs]
        simp only [Sum.elim_inr]
        obtain ⟨tk3, tp3⟩ := tk_ok (T := T) (n := n) (p := tE (tk T n (tE (tk T n (tE τ))))) (by have := tk2.1; omega) (by have := tk2.1; omega)
        have t3 := h3.1.1.1.1
        have hC3 := h3.2.2.2.1
        have w9 := h3.2.2.2.2.2.2.1.2.1
        have m39 := h3.2.2.2.2.2.1.1.2.1
        rw [gR_ok t3 h3.1.1.2.1.2.2.2, obs, gR_ok hC3.1.1 hC3.2.1.2.2.1, obs, obs, gI_ok hC3.1.1, hC3.2.2.2.1 9 (by omega) (by omega), obs, obs, gR_ok hC3.1.1 hC3.2.1.2.2.2.1, obs, ck_ok t3, obs, m39, iI_sub]
        have w9' : 1 ≤ vN ν 9 ∧ vN ν 9 ≤ 6 := w9
        show LBad N0 F y s (tP τ) _ _ ∨ LOk G T n N0 R A F r y s (tP τ) _ _ _
        rcases h3.cell1 hT (lo := 0) (hi := vN ν 9 - 1) (by omega) (by omega) with ⟨y4, s4, τ4, z4, e4, e5, h4, e6, e7, e8, e9⟩ | ⟨y4, s4, kk, p, v2, e4, e5, e6, e7, e8, e9, e10⟩
        · right
          have e4' : fy_Reader_cell G y3 R (iI 0) (iI (vN (upN (vN ν) 10 (vN ν 10 + 1), vV ν, vW ν, vH ν) 9 - 1)) (r + 4) = some (.inr (iI z4), yw y4 (r + 4) z4.toNat (iI 1)) := e4
          have e5' : fm_readCell_10 s3 (iI 0) (iI (vN (upN (vN ν) 10 (vN ν 10 + 1), vV ν, vW ν, vH ν) 9 - 1)) = some (iI z4, s4) := e5
          rw [e4', e5', obs, obs]
          simp only [Sum.elim_inr]
          have hC4 := h4.2.2.2.1
          have hm4 := h4.2.2.2.2.2.1
          have hlab := h4.2.1
          obtain ⟨⟨w8, w9, w10, w11, w12⟩, wz, wb, wl, wh, w16, w17⟩ := h4.2.2.2.2.2.2
          have hA1 : ¬ A = r + 4 := by have := hlab.2.2.2.2.2.2.2.2.1; have := hlab.2.2.2.2.2.2.2.2.2.2.1; omega
          have hA2 : ¬ A = r + 3 := by have := hlab.2.2.2.2.2.2.2.2.1; have := hlab.2.2.2.2.2.2.2.2.2.2.1; omega
          obtain ⟨r1, r2⟩ := RB_w (a := r + 4) (i := z4.toNat) (v := iI 1) h4.1.1 h4.1.2.1 hA1
          obtain ⟨r3, r4⟩ := RB_w (a := r + 3) (i := z4.toNat) (v := iI mu) r1 r2 hA2
          obtain ⟨r5, r6⟩ := RB_set (a := r) (k := 11) (v := iI (vN ν 11 + 1)) r3 r4 hlab.2.2.2.2.2.2.2.2.2.2.2
          have fy : yF O [38, 211] 0 0 y4 (sF (yw (yw y4 (r + 4) z4.toNat (iI 1)) (r + 3) z4.toNat (iI mu)) r 11 (iI (vN ν 11 + 1))) := ((yF.refl.w (by rw [hlab.2.2.2.2.1.2.1]; rfl)).w (by rw [hlab.2.2.2.2.1.1]; rfl)).sf (by unfold lbF; rw [hlab.2.1, if_pos rfl]; rfl)
          have hC5 : CLr G O r (sF (yw (yw y4 (r + 4) z4.toNat (iI 1)) (r + 3) z4.toNat (iI mu)) r 11 (iI (vN ν 11 + 1))) (upN (upN (upN (vN ν) 10 (vN ν 10 + 1)) 11 (vN ν 11 + 1)) 17 1, upR (upR (vV ν) 0 (upI (vV ν 0) z4 mu)) 1 (upI (vV ν 1) z4 1), vW ν, vH ν) bd le := by
            refine hC4.fra hlab fy rfl (fun j j1 j2 => ?_) rfl rfl (fun w w1 w2 => ?_) (fun j j1 j2 => ?_)
            · rw [sF_get]
              show _ = iI (upN (upN (upN (vN ν) 10 (vN ν 10 + 1)) 11 (vN ν 11 + 1)) 17 1 j)
              unfold upN
              by_cases zz : j = 11
              · rw [if_pos ⟨rfl, zz⟩, if_neg (by omega), if_pos zz]
              · rw [if_neg (by omega), if_neg (by omega), if_neg zz]
                exact hC4.2.2.2.1 j j1 j2
            · obtain ⟨ca, cb, cc⟩ := hC4.2.2.2.2.1 w w1 w2
              show ya (yw (yw y4 (r + 4) z4.toNat (iI 1)) (r + 3) z4.toNat (iI mu)) (r + 3) w.toNat = iI (upI (vV ν 0) z4 mu w) ∧ ya (yw (yw y4 (r + 4) z4.toNat (iI 1)) (r + 3) z4.toNat (iI mu)) (r + 4) w.toNat = iI (upI (vV ν 1) z4 1 w) ∧ ya (yw (yw y4 (r + 4) z4.toNat (iI 1)) (r + 3) z4.toNat (iI mu)) (r + 5) w.toNat = iI (vV ν 2 w)
              simp only [yw_get, upI]
              refine ⟨?_, ?_, ?_⟩
              · by_cases zz : w = z4
                · rw [if_pos ⟨trivial, by rw [zz]⟩, if_pos zz]
                · rw [if_neg (by omega), if_neg (by omega), if_neg zz]; exact ca
              · by_cases zz : w = z4
                · rw [if_neg (by omega), if_pos ⟨trivial, by rw [zz]⟩, if_pos zz]
                · rw [if_neg (by omega), if_neg (by omega), if_neg zz]; exact cb
              · rw [if_neg (by omega), if_neg (by omega)]; exact cc
            · show (if j = 1 then _ else if j = 0 then _ else vV ν j) = _
              rw [if_neg (by omega), if_neg (by omega)]
          have hR4 := h4.1.1.1.2
          have hNR := hlab.2.2.2.2.2.2.2.2.2.1
          have hm5 : ML (mSi (aw s4 10 z4.toNat (iI mu)) 40 (iI (vN ν 11 + 1))) (upN (upN (upN (vN ν) 10 (vN ν 10 + 1)) 11 (vN ν 11 + 1)) 17 1, upR (upR (vV ν) 0 (upI (vV ν 0) z4 mu)) 1 (upI (vV ν 1) z4 1), vW ν, vH ν) := by
            obtain ⟨⟨a1, a2, a3, a4⟩, b, c, d⟩ := hm4
            refine ⟨⟨a1, a2, rfl, a4⟩, fun w w1 w2 => ?_, c, d⟩
            obtain ⟨b1, b2⟩ := b w w1 w2
            show (aw s4 10 z4.toNat (iI mu)).2.2.1 10 w.toNat = iI (if upI (vV ν 1) z4 1 w = 1 then upI (vV ν 0) z4 mu w else -1) ∧ (aw s4 10 z4.toNat (iI mu)).2.2.1 11 w.toNat = iI (if vV ν 2 w = 1 then 1 else -1)
            refine ⟨?_, by rw [aw_get, if_neg (by omega)]; exact b2⟩
            rw [aw_get]
            unfold upI
            by_cases zz : w = z4
            · rw [if_pos ⟨rfl, by rw [zz]⟩, if_pos zz, if_pos zz, if_pos rfl]
            · rw [if_neg (by omega), if_neg zz, if_neg zz]; exact b1
          have hw5 : wfL (upN (upN (upN (vN ν) 10 (vN ν 10 + 1)) 11 (vN ν 11 + 1)) 17 1, upR (upR (vV ν) 0 (upI (vV ν 0) z4 mu)) 1 (upI (vV ν 1) z4 1), vW ν, vH ν) := by
            refine ⟨⟨w8, w9, w10, ⟨by have q : 0 ≤ vN ν 11 := w11.1; show 0 ≤ vN ν 11 + 1; omega, by show vN ν 11 + 1 ≤ 16; omega⟩, w12⟩, fun w w1 w2 => ?_, wb, wl, wh, w16, fun q => absurd (show (1 : Int) = 0 from q) (by decide)⟩
            obtain ⟨x1, x2, x3, x4, x5⟩ := wz w w1 w2
            show (0 ≤ upI (vV ν 0) z4 mu w ∧ upI (vV ν 0) z4 mu w ≤ 7) ∧ (upI (vV ν 1) z4 1 w = 0 ∨ upI (vV ν 1) z4 1 w = 1) ∧ (vV ν 2 w = 0 ∨ vV ν 2 w = 1) ∧ (upI (vV ν 1) z4 1 w = 0 → upI (vV ν 0) z4 mu w = 0) ∧ (8 * vN ν 9 ≤ w → upI (vV ν 1) z4 1 w = 0)
            unfold upI
            by_cases zz : w = z4
            · rw [if_pos zz, if_pos zz]
              refine ⟨q6, Or.inr rfl, x3, fun q => absurd q (by decide), fun q => ?_⟩
              have := e6.2.2.1
              have e : vN (upN (vN ν) 10 (vN ν 10 + 1), vV ν, vW ν, vH ν) 9 = vN ν 9 := rfl
              omega
            · rw [if_neg zz, if_neg zz]
              exact ⟨x1, x2, x3, x4, x5⟩
          have tC4 : yt (yw y4 (r + 4) z4.toNat (iI 1)) (r + 3) = some (.inl (0, 56)) := hC4.2.2.1.1
          have t4 : yt (yw (yw y4 (r + 4) z4.toNat (iI 1)) (r + 3) z4.toNat (iI mu)) R = some (.inr 8) := h4.1.1.1.1
          have tr4 : yt (yw (yw y4 (r + 4) z4.toNat (iI 1)) (r + 3) z4.toNat (iI mu)) r = some (.inr 1) := hC4.1.1
          have e11 : yf (yw (yw y4 (r + 4) z4.toNat (iI 1)) (r + 3) z4.toNat (iI mu)) r 11 = iI (vN ν 11) := hC4.2.2.2.1 11 (by omega) (by omega)
          refine ⟨O, _, _, τ4, _, bd, le, ?_, ?_, h4.arrs (K := [40]) (J := [10]) r6 r5 fy hC5 ((fr.refl.aw rfl).si rfl) rfl rfl hm5 hw5, rfl, ((((k2.trans q4).trans k3).trans e7).trans (fy.kp hlab (by omega) rfl)).mono (by omega) (by omega), by omega, ?_⟩
          · rw [wA_n 56 tC4 e6.1 e6.2.1 (by omega), obs, gR_ok t4 h4.1.1.2.1.2.2.2, obs, gI_ok tr4, e11, obs, iI_add, wI_ok tr4, obs]
            rfl
          · have e2' : s4.1 2 = iI 0 := h4.2.2.2.2.1.2.2.1
            have e40 : (aw s4 10 z4.toNat (iI mu)).1 40 = iI (vN ν 11) := hm4.1.2.2.1
            rw [e2', if_pos (by decide), sto_w (n := 56) e6.1 e6.2.1 (by omega), obs]
            simp only [pI, obs, e40, iI_add]
          · exact ((((f1.mono rfl rfl).trans (q5.mono rfl rfl)).trans (f3.mono rfl rfl)).trans (e8.mono rfl rfl)).trans (((fr.refl (K := LK) (J := LJ)).aw rfl).si rfl)
        · left
          have e4' : fy_Reader_cell G y3 R (iI 0) (iI (vN (upN (vN ν) 10 (vN ν 10 + 1), vV ν, vW ν, vH ν) 9 - 1)) (r + 4) = some (.inl F, y4) := e4
          have e5' : fm_readCell_10 s3 (iI 0) (iI (vN (upN (vN ν) 10 (vN ν 10 + 1), vV ν, vW ν, vH ν) 9 - 1)) = some (v2, s4) := e5
          rw [e4', e5', obs, obs]
          refine ⟨y4, s4, kk, p, rfl, ?_, ⟨e6.1, e6.2.1, by omega, e6.2.2.2⟩, e7, e8, (((k2.trans q4).trans k3).trans e9).mono (by omega) (by omega), (((f1.mono rfl rfl).trans (q5.mono rfl rfl)).trans (f3.mono rfl rfl)).trans (e10.mono rfl rfl)⟩
          simp only
          rw [e8.1, if_neg (by rw [iI_le (by omega) (by omega) (by omega) (by omega)]; omega)]
      · left
        have fb := fkT_b (tk T n (tE (tk T n (tE τ))))
        obtain ⟨v3, e5⟩ := m_cellF10 (s := wrM s2 (fkT (tk T n (tE (tk T n (tE τ))))) (tP (tk T n (tE (tk T n (tE τ)))))) (k := fkT (tk T n (tE (tk T n (tE τ))))) rfl (by omega) (iI 0) ((wrM s2 (fkT (tk T n (tE (tk T n (tE τ))))) (tP (tk T n (tE (tk T n (tE τ)))))).1 39 - iI 1)
        refine LBad.mk (k := fkT (tk T n (tE (tk T n (tE τ))))) (τ := tk T n (tE (tk T n (tE τ)))) (y1 := y2) (s1 := wrM s2 (fkT (tk T n (tE (tk T n (tE τ))))) (tP (tk T n (tE (tk T n (tE τ)))))) tk2 hT ?_ ?_ rfl rfl (by omega) (k2.trans q4) (((f1.mono rfl rfl).trans (q5.mono rfl rfl)).trans (wrM_fr.mono rfl rfl)) (by omega) (by omega) (by omega)
        · rw [e1, obs, obs, show iI 0 = (0 : Int32) from rfl, e2, obs]
          rfl
        · rw [show fm_want s2 (wcd W_at) = some (wrM s2 (fkT (tk T n (tE (tk T n (tE τ))))) (tP (tk T n (tE (tk T n (tE τ)))))) from e3, obs, e5, obs]
          simp only
          rw [show (wrM s2 (fkT (tk T n (tE (tk T n (tE τ))))) (tP (tk T n (tE (tk T n (tE τ)))))).1 2 = iI (fkT (tk T n (tE (tk T n (tE τ))))) from rfl, if_neg (by rw [iI_le (by omega) (by omega) (by omega) (by omega)]; omega)]
    · left
      have ew := m_wantF (s := wrM s1 k (tP (tk T n (tE τ)))) (k := k) rfl q1 (wcd W_at)
      obtain ⟨v3, e5⟩ := m_cellF10 (s := wrM s1 k (tP (tk T n (tE τ)))) (k := k) rfl q1 (iI 0) ((wrM s1 k (tP (tk T n (tE τ)))).1 39 - iI 1)
      refine LBad.mk (k := k) (τ := tk T n (tE τ)) (y1 := y1) (s1 := wrM s1 k (tP (tk T n (tE τ)))) tk1 hT ?_ ?_ rfl rfl q1 k2 ((f1.mono rfl rfl).trans (wrM_fr.mono rfl rfl)) (by omega) (by omega) (by omega)
      · rw [q2, obs]
        rfl
      · rw [q3, obs]
        simp only
        rw [ew, obs, e5, obs]
        simp only
        rw [show (wrM s1 k (tP (tk T n (tE τ)))).1 2 = iI k from rfl, if_neg (by rw [iI_le (by omega) (by omega) (by omega) (by omega)]; omega)]
  · obtain ⟨e1, e2⟩ := H2 cz
    exact L_no hT h e1 e2
theorem L_iron (hT : txO T n) (hG : okW G) (h : LZ G T n N0 R A F r O y s τ ν bd le) (hL : vN ν 10 ≤ 1900) (h16 : vN ν 16 = if vN ν 10 = 0 then 0 else 1) (hw : isW τ W_iron) : LLn G T n N0 R A F r y s τ ν := by
  obtain ⟨H1, H2⟩ := hd_iron hT hG h hL h16 hw
  by_cases cz : vN ν 12 < 6
  · obtain ⟨y1, s1, k1, h1, k2, f1, eC, eM⟩ := H1 cz
    have hpe : tP τ < tE τ := h.1.2.2.2.2.2.1 (by have := hw.1; omega) (by have := hw.1; omega)
    have tb := h.1.2.2.1
    obtain ⟨tk1, tp1⟩ := tk_ok (T := T) (n := n) (p := tE τ) (by omega) (by omega)
    have t1 := h1.1.1.1.1
    have hC1 := h1.2.2.2.1
    have w9 : 1 ≤ vN ν 9 ∧ vN ν 9 ≤ 6 := h1.2.2.2.2.2.2.1.2.1
    have m39 : s1.1 39 = iI (vN ν 9) := h1.2.2.2.2.2.1.1.2.1
    have c9 : yf y1 r 9 = iI (vN ν 9) := hC1.2.2.2.1 9 (by omega) (by omega)
    refine ⟨fm_readIron s, eM, ?_⟩
    rw [eC]
    unfold fm_readIron fy_Reader_iron
    rw [k1, obs, ck_ok t1, obs, gR_ok t1 h1.1.1.2.1.2.2.2, obs, gI_ok hC1.1.1, c9, obs, obs, gR_ok hC1.1.1 hC1.2.1.2.2.2.2.1, obs, obs, m39]
    simp only [show (1 : Int32) = iI 1 from rfl, iI_sub]
    rcases h1.cell2 hT (lo := 1) (hi := vN ν 9 - 1) (by omega) (by omega) with ⟨y4, s4, τ4, z4, e4, e5, h4, e6, e7, e8, e9⟩ | ⟨y4, s4, kk, p, v2, e4, e5, e6, e7, e8, e9, e10⟩
    · right
      rw [e4, e5, obs, obs]
      simp only [Sum.elim_inr]
      have hC4 := h4.2.2.2.1
      have hm4 := h4.2.2.2.2.2.1
      have hlab := h4.2.1
      obtain ⟨⟨w8, w9', w10, w11, w12, w13⟩, wz, wb, wl, wh, w16, w17⟩ := h4.2.2.2.2.2.2
      have hA1 : ¬ A = r + 5 := by have := hlab.2.2.2.2.2.2.2.2.1; have := hlab.2.2.2.2.2.2.2.2.2.2.1; omega
      obtain ⟨r1, r2⟩ := RB_w (a := r + 5) (i := z4.toNat) (v := iI 1) h4.1.1 h4.1.2.1 hA1
      obtain ⟨r5, r6⟩ := RB_set (a := r) (k := 12) (v := iI (vN ν 12 + 1)) r1 r2 hlab.2.2.2.2.2.2.2.2.2.2.2
      have fy : yF O [38, 212] 0 0 y4 (sF (yw y4 (r + 5) z4.toNat (iI 1)) r 12 (iI (vN ν 12 + 1))) := (yF.refl.w (by rw [hlab.2.2.2.2.1.2.2]; rfl)).sf (by unfold lbF; rw [hlab.2.1, if_pos rfl]; rfl)
      have hC5 : CLr G O r (sF (yw y4 (r + 5) z4.toNat (iI 1)) r 12 (iI (vN ν 12 + 1))) (upN (upN (vN ν) 10 (vN ν 10 + 1)) 12 (vN ν 12 + 1), upR (vV ν) 2 (upI (vV ν 2) z4 1), vW ν, vH ν) bd le := by
        refine hC4.fra hlab fy rfl (fun j j1 j2 => ?_) rfl rfl (fun w w1 w2 => ?_) (fun j j1 j2 => ?_)
        · rw [sF_get]
          show _ = iI (upN (upN (vN ν) 10 (vN ν 10 + 1)) 12 (vN ν 12 + 1) j)
          unfold upN
          by_cases zz : j = 12
          · rw [if_pos ⟨rfl, zz⟩, if_pos zz]
          · rw [if_neg (by omega), if_neg zz]
            exact hC4.2.2.2.1 j j1 j2
        · obtain ⟨ca, cb, cc⟩ := hC4.2.2.2.2.1 w w1 w2
          show ya (yw y4 (r + 5) z4.toNat (iI 1)) (r + 3) w.toNat = iI (vV ν 0 w) ∧ ya (yw y4 (r + 5) z4.toNat (iI 1)) (r + 4) w.toNat = iI (vV ν 1 w) ∧ ya (yw y4 (r + 5) z4.toNat (iI 1)) (r + 5) w.toNat = iI (upI (vV ν 2) z4 1 w)
          simp only [yw_get, upI]
          refine ⟨?_, ?_, ?_⟩
          · rw [if_neg (by omega)]; exact ca
          · rw [if_neg (by omega)]; exact cb
          · by_cases zz : w = z4
            · rw [if_pos ⟨trivial, by rw [zz]⟩, if_pos zz]
            · rw [if_neg (by omega), if_neg zz]; exact cc
        · show (if j = 2 then _ else vV ν j) = _
          rw [if_neg (by omega)]
      have hR4 := h4.1.1.1.2
      have hNR := hlab.2.2.2.2.2.2.2.2.2.1
      have hm5 : ML (mSi (aw s4 11 z4.toNat (iI 1)) 41 (iI (vN ν 12 + 1))) (upN (upN (vN ν) 10 (vN ν 10 + 1)) 12 (vN ν 12 + 1), upR (vV ν) 2 (upI (vV ν 2) z4 1), vW ν, vH ν) := by
        obtain ⟨⟨a1, a2, a3, a4, a5⟩, b, c, d⟩ := hm4
        refine ⟨⟨a1, a2, a3, rfl, a5⟩, fun w w1 w2 => ?_, c, d⟩
        obtain ⟨b1, b2⟩ := b w w1 w2
        show (aw s4 11 z4.toNat (iI 1)).2.2.1 10 w.toNat = iI (if vV ν 1 w = 1 then vV ν 0 w else -1) ∧ (aw s4 11 z4.toNat (iI 1)).2.2.1 11 w.toNat = iI (if upI (vV ν 2) z4 1 w = 1 then 1 else -1)
        refine ⟨by rw [aw_get, if_neg (by omega)]; exact b1, ?_⟩
        rw [aw_get]
        unfold upI
        by_cases zz : w = z4
        · rw [if_pos ⟨rfl, by rw [zz]⟩, if_pos zz, if_pos rfl]
        · rw [if_neg (by omega), if_neg zz]; exact b2
      have hw5 : wfL (upN (upN (vN ν) 10 (vN ν 10 + 1)) 12 (vN ν 12 + 1), upR (vV ν) 2 (upI (vV ν 2) z4 1), vW ν, vH ν) := by
        refine ⟨⟨w8, w9', w10, w11, ⟨by have q : 0 ≤ vN ν 12 := w12.1; show 0 ≤ vN ν 12 + 1; omega, by show vN ν 12 + 1 ≤ 6; omega⟩, w13⟩, fun w w1 w2 => ?_, wb, wl, wh, w16, w17⟩
        obtain ⟨x1, x2, x3, x4, x5⟩ := wz w w1 w2
        refine ⟨x1, x2, ?_, x4, x5⟩
        show upI (vV ν 2) z4 1 w = 0 ∨ upI (vV ν 2) z4 1 w = 1
        unfold upI
        by_cases zz : w = z4
        · rw [if_pos zz]; exact Or.inr rfl
        · rw [if_neg zz]; exact x3
      have t4 : yt (yw y4 (r + 5) z4.toNat (iI 1)) R = some (.inr 8) := h4.1.1.1.1
      have tr4 : yt (yw y4 (r + 5) z4.toNat (iI 1)) r = some (.inr 1) := hC4.1.1
      have e11 : yf (yw y4 (r + 5) z4.toNat (iI 1)) r 12 = iI (vN ν 12) := hC4.2.2.2.1 12 (by omega) (by omega)
      refine ⟨O, _, _, τ4, _, bd, le, ?_, ?_, h4.arrs (K := [41]) (J := [11]) r6 r5 fy hC5 ((fr.refl.aw rfl).si rfl) rfl rfl hm5 hw5, rfl, ((k2.trans e7).trans (fy.kp hlab (by omega) rfl)).mono (by omega) (by omega), by omega, ?_⟩
      · rw [gR_ok t4 h4.1.1.2.1.2.2.2, obs, gI_ok tr4, e11, obs, iI_add, wI_ok tr4, obs]
        rfl
      · have e2' : s4.1 2 = iI 0 := h4.2.2.2.2.1.2.2.1
        have e40 : (aw s4 11 z4.toNat (iI 1)).1 41 = iI (vN ν 12) := hm4.1.2.2.2.1
        rw [e2', if_pos (by decide), sto_w (n := 56) e6.1 e6.2.1 (by omega), obs]
        simp only [pI, obs, e40, iI_add]
      · exact ((f1.mono rfl rfl).trans (e8.mono rfl rfl)).trans (((fr.refl (K := LK) (J := LJ)).aw rfl).si rfl)
    · left
      rw [e4, e5, obs, obs]
      refine ⟨y4, s4, kk, p, rfl, ?_, ⟨e6.1, e6.2.1, by omega, e6.2.2.2⟩, e7, e8, (k2.trans e9).mono (by omega) (by omega), (f1.mono rfl rfl).trans (e10.mono rfl rfl)⟩
      simp only
      rw [e8.1, if_neg (by rw [i0, iI_le (by omega) (by omega) (by omega) (by omega)]; omega)]
  · obtain ⟨e1, e2⟩ := H2 cz
    exact L_no hT h e1 e2
end N5

/-! LAYER 3, the lines: board, its stages -/
set_option maxRecDepth 100000
/-- an object in the making: the newest of what is read -/
def BS (G : ai_G) (T : Int → Int) (n : Int) (N0 R A F r : Nat) (O : Nat → Nat) (y0 y : yS) (s : mS) (τ : Tk) (ν : Lv) (bd le : Nat → Nat) (cls lab al : Nat) : Prop := LZ G T n N0 R A F r O y s τ ν bd le ∧ CLr G O r y0 ν bd le ∧ yF O LF 2 8 y0 y ∧ (yt y (yn y0) = some (.inr cls) ∧ yn y0 < yn y ∧ O (yn y0) = lab ∧ ∀ a, yn y0 < a → O a = al) ∧ ¬ R = yn y0 ∧ N0 ≤ yn y0
def LOut (G : ai_G) (T : Int → Int) (n : Int) (N0 R A F r : Nat) (y : yS) (s : mS) (p0 c0 : Int) (fz : Option ((Nat ⊕ Unit) × yS)) (mz : Option mS) : Prop := LBad N0 F y s p0 fz mz ∨ LOk G T n N0 R A F r y s p0 fz mz (fun ν' => vN ν' 10 = c0)
section N9
variable {G : ai_G} {T : Int → Int} {n : Int} {N0 R A F r : Nat} {O O' : Nat → Nat} {y y0 y1 yb : yS} {s s0 s1 sb : mS} {τ τ1 : Tk} {ν : Lv} {bd le : Nat → Nat} {c d cls lab al : Nat} {K J L : List Nat} {p0 : Int}
theorem BS.rd (h : BS G T n N0 R A F r O y0 y s τ ν bd le cls lab al) (f : rdY R y y1) (hz : LZ G T n N0 R A F r O y1 s1 τ1 ν bd le) : BS G T n N0 R A F r O y0 y1 s1 τ1 ν bd le cls lab al ∧ yf y1 (yn y0) = yf y (yn y0) ∧ yj y1 (yn y0) = yj y (yn y0) := by
  obtain ⟨a, b, cc, ⟨d1, d2, d3⟩, e, e'⟩ := h
  obtain ⟨q1, q2⟩ := f.2.1 (yn y0) (fun z => e z.symm)
  exact ⟨⟨hz, b, cc.trans (f.yF a.2.1.1), ⟨by rw [f.1.1]; exact d1, by rw [f.1.2.2.2.2.1]; exact d2, d3⟩, e, e'⟩, q1, q2⟩
theorem BS.sf (h : BS G T n N0 R A F r O y0 y s τ ν bd le cls lab al) (k : Nat) (v : Int32) : wI cls k y (yn y0) v = some (sF y (yn y0) k v) ∧ BS G T n N0 R A F r O y0 (sF y (yn y0) k v) s τ ν bd le cls lab al ∧ kpY N0 F 0 0 y (sF y (yn y0) k v) := by
  obtain ⟨a, b, cc, d, e, e'⟩ := h
  exact ⟨wI_ok d.1, ⟨a.sfN b cc rfl (Nat.le_refl _) e, b, cc.sfN (Nat.le_refl _), d, e, e'⟩, kp_sF e'⟩
theorem BS.ms (h : BS G T n N0 R A F r O y0 y s τ ν bd le cls lab al) (g : fr K J s s1) (hK : K.all (fun k => !([2, 3, 4, 5, 6, 7, 8, 100].contains k)) = true) (hJ : J.contains 1 = false) (hm : ML s1 ν) : BS G T n N0 R A F r O y0 y s1 τ ν bd le cls lab al := ⟨h.1.ms g hK hJ hm, h.2⟩
theorem LBad.of {α : Type} {fz : Option ((Nat ⊕ α) × yS)} {mz : Option mS} {k p : Int} {y' : yS} {s' : mS} (hf : fz = some (.inl F, y')) (hm : mz = some s') (hk : 1 ≤ k ∧ k ≤ 4) (hp : p0 ≤ p ∧ p ≤ 1600) (h1 : yf y' F 0 = iI k ∧ yf y' F 1 = iI p) (h2 : s'.1 2 = iI k ∧ s'.1 3 = iI p) (f : kpY N0 F c d y y') (g : fr LK LJ s s') (hc : c ≤ (p - p0).toNat) (hd : d ≤ 20 * (p - p0).toNat) : LBad N0 F y s p0 fz mz := ⟨y', s', k, p, hf, hm, ⟨hk.1, hk.2, hp.1, hp.2⟩, h1, h2, f.mono hc hd, g⟩
/-- the end of a board -/
theorem S4 (hg : okG G) (h : BS G T n N0 R A F r O y0 y s τ ν bd le 9 36 34) {v1 v2 v3 : Int} {w : Int64} (hf : yf y (yn y0) 1 = iI v1 ∧ yf y (yn y0) 2 = iI v2 ∧ yf y (yn y0) 3 = iI v3 ∧ yj y (yn y0) 0 = w) (hv : (0 ≤ v1 ∧ v1 ≤ 99) ∧ (0 ≤ v2 ∧ v2 < vN ν 8) ∧ (0 ≤ v3 ∧ v3 ≤ 99)) (hc : vN ν 0 < 4) (hm : s.2.2.1 12 (vN ν 0).toNat = iI v1 ∧ s.2.2.1 13 (vN ν 0).toNat = iI v2 ∧ s.2.2.2 (vN ν 0).toNat = w) (kp : kpY N0 F 2 8 yb y) (fm : fr LK LJ sb s) (hp : p0 + 4 ≤ tP τ) : LOut G T n N0 R A F r yb sb p0 (vN ν 10) (cB4 0 G y R (yn y0)) (fm_readBoard_j87 s (iI (vN ν 0)) (iI v3)) := by
  obtain ⟨y', s', ν', bd', e1, e2, e3, e4, e5, e6⟩ := B4 hg h.1 ⟨h.2.2.2.1.1, h.2.2.2.1.2.2.1, h.2.2.2.1.2.1⟩ (h.2.2.2.1.2.2.2 _ h.2.2.2.1.2.1) hf hv hc hm
  exact Or.inr ⟨O, y', s', τ, ν', bd', le, e1, e2, e3, e4, (kp.trans e5).mono (by omega) (by omega), by omega, fm.trans (e6.mono rfl rfl)⟩
theorem S3 (hT : txO T n) (hG : okW G) (hg : okG G) (h : BS G T n N0 R A F r O y0 y s τ ν bd le 9 36 34) {v1 v2 : Int} {w : Int64} (hf : yf y (yn y0) 1 = iI v1 ∧ yf y (yn y0) 2 = iI v2 ∧ yf y (yn y0) 3 = iI 20 ∧ yj y (yn y0) 0 = w) (hv : (0 ≤ v1 ∧ v1 ≤ 99) ∧ (0 ≤ v2 ∧ v2 < vN ν 8)) (hc : vN ν 0 < 4) (hm : s.2.2.1 12 (vN ν 0).toNat = iI v1 ∧ s.2.2.1 13 (vN ν 0).toNat = iI v2 ∧ s.2.2.2 (vN ν 0).toNat = w) (kp : kpY N0 F 2 8 yb y) (fm : fr LK LJ sb s) (hp : p0 + 4 ≤ tP τ) : LOut G T n N0 R A F r yb sb p0 (vN ν 10) (cB3 G y R (yn y0)) (bT3 s (iI (vN ν 0))) := by
  have hz := h.1
  have tb := hz.1.2.2.1
  have hn := hT.1
  obtain ⟨a11, g11, c11⟩ := hG.2.2.1 11 (by omega)
  have hl : ltW W_bears := cst_lt _ (by decide)
  obtain ⟨q1, q2⟩ := c_comes hT hG hz.2.2.1 hz.1.1 hz.1.2.1 hz.1.2.2 (w := W_bears) c11 hl
  have ei := m_isW (w := W_bears) hz.2.2.2.2.1.2.1 hz.1.2.2
  have m2 := hz.2.2.2.2.1.2.2.1
  have w0 : 0 ≤ vN ν 0 := hz.2.2.2.2.2.2.1.2.2.2.2.2.2.2.2.2.2.1.1
  unfold cB3 bT3
  rw [g11, obs, ck_ok hz.1.1.1.1, obs, m2, if_pos (show iI 0 = 0 from rfl), cW_bears, ei, obs]
  by_cases z : isW τ W_bears
  · obtain ⟨y2, k1, k2, k3⟩ := q1 z
    rw [k1, obs, if_pos z, if_neg (show ¬ ((1 : Int32), y2).1 = 0 from (by decide : ¬ (1 : Int32) = 0)), if_neg (by decide)]
    obtain ⟨tk1, tp1⟩ := tk_ok (T := T) (n := n) (p := tE τ) (by omega) (by omega)
    obtain ⟨s2, j1, j2, j3⟩ := (m_want (w := W_bears) hT hz.2.2.2.2.1.1 hz.2.2.2.2.1.2.1 hz.1.2.2 m2).1 z
    have hz2 : LZ G T n N0 R A F r O y2 s2 (tk T n (tE τ)) ν bd le := hz.rd k2 k3 tk1 j2 j3
    obtain ⟨h2, f2, g2⟩ := h.rd k2 hz2
    have hm2 : s2.2.2.1 12 (vN ν 0).toNat = iI v1 ∧ s2.2.2.1 13 (vN ν 0).toNat = iI v2 ∧ s2.2.2.2 (vN ν 0).toNat = w := by rw [j3.a 12 rfl, j3.a 13 rfl, j3.n rfl]; exact hm
    obtain ⟨n1, n2⟩ := c_number (G := G) hT hz2.1.1 hz2.1.2.1 tk1 (a := 0) (b := 99) (by omega) (by omega)
    obtain ⟨n3, n4⟩ := m_number hT hz2.2.2.2.2.1.1 j2 tk1 hz2.2.2.2.2.1.2.2.1 (a := 0) (b := 99) (by omega) (by omega)
    have kp2 : kpY N0 F 2 8 yb y2 := kp.trans (k2.kp hz.2.1.2.2.2.2.2.2.2.2.2.1)
    unfold fm_told
    simp only
    rw [ck_ok hz2.1.1.1.1, obs, show (0 : Int32) = iI 0 from rfl, show (99 : Int32) = iI 99 from rfl, j1, obs]
    by_cases nz : nmK (tk T n (tE τ)) 0 99 = 0
    · obtain ⟨y3, u1, u2, u3⟩ := n1 nz
      obtain ⟨s3, x1, x2, x3⟩ := n3 nz
      obtain ⟨tk2, tp2⟩ := tk_ok (T := T) (n := n) (p := tE (tk T n (tE τ))) (by have := tk1.1; omega) (by have := tk1.1; omega)
      have hz3 : LZ G T n N0 R A F r O y3 s3 _ ν bd le := hz2.rd u2 u3 tk2 x2 x3
      obtain ⟨h3, f3, g3⟩ := h2.rd u2 hz3
      obtain ⟨z1, z2, z3⟩ := nmK_0.mp nz
      obtain ⟨b1, b2, b3⟩ := h3.sf 3 (iI (tN (tk T n (tE τ))))
      rw [u1, x1, obs, obs, obs]
      simp only [Sum.elim_inr]
      rw [b1, obs]
      refine S4 hg b2 (v1 := v1) (v2 := v2) (w := w) ⟨?_, ?_, ?_, ?_⟩ ⟨hv.1, hv.2, z2, z3⟩ hc ?_ ((kp2.trans (u2.kp hz.2.1.2.2.2.2.2.2.2.2.2.1)).trans b3) ((fm.trans (j3.mono rfl rfl)).trans (x3.mono rfl rfl)) (by have := tk1.1; omega)
      · rw [sF_get, if_neg (by omega), f3, f2]; exact hf.1
      · rw [sF_get, if_neg (by omega), f3, f2]; exact hf.2.1
      · rw [sF_get, if_pos ⟨rfl, rfl⟩]
      · show yj y3 (yn y0) 0 = w
        rw [g3, g2]; exact hf.2.2.2
      · rw [x3.a 12 rfl, x3.a 13 rfl, x3.n rfl]; exact hm2
    · obtain ⟨v, x1⟩ := n4 nz
      have nb := nmK_b (tk T n (tE τ)) 0 99
      rw [n2 nz, x1, obs, obs, obs]
      simp only [Sum.elim_inl]
      rw [bF4 (k := nmK (tk T n (tE τ)) 0 99) rfl (by omega) w0 hc]
      left
      refine LBad.of (k := nmK (tk T n (tE τ)) 0 99) (p := tP (tk T n (tE τ))) rfl rfl (by omega) ⟨by omega, by have := tk1.1; omega⟩ wr_get ⟨rfl, rfl⟩ (kp2.trans kp_wr) ?_ (by omega) (by omega)
      exact ((fm.trans (j3.mono rfl rfl)).trans (wrM_fr.mono rfl rfl)).aw rfl
  · rw [q2 z, obs, if_neg z, if_pos rfl, if_pos rfl]
    exact S4 hg h hf ⟨hv.1, hv.2, by omega, by omega⟩ hc hm kp fm hp
theorem S2 (hT : txO T n) (hG : okW G) (hg : okG G) (h : BS G T n N0 R A F r O y0 y s τ ν bd le 9 36 34) {v1 : Int} {w : Int64} (hf : yf y (yn y0) 1 = iI v1 ∧ yf y (yn y0) 3 = iI 20 ∧ yj y (yn y0) 0 = w) (hv : 0 ≤ v1 ∧ v1 ≤ 99) (hc : vN ν 0 < 4) (hm : s.2.2.1 12 (vN ν 0).toNat = iI v1 ∧ s.2.2.2 (vN ν 0).toNat = w) (kp : kpY N0 F 2 8 yb y) (fm : fr LK LJ sb s) (hp : p0 + 4 ≤ tP τ) : LOut G T n N0 R A F r yb sb p0 (vN ν 10) (cB2 G y R (yn y0)) (bT2 s (iI (vN ν 0))) := by
  have hz := h.1
  have w8 := hz.2.2.2.2.2.2.1.1
  have w1 : 0 ≤ vN ν 1 := hz.2.2.2.2.2.2.1.2.2.2.2.2.2.2.2.2.2.2.1
  have w0 : 0 ≤ vN ν 0 := hz.2.2.2.2.2.2.1.2.2.2.2.2.2.2.2.2.2.1.1
  obtain ⟨a9, g9, c9⟩ := hG.2.2.1 9 (by omega)
  have hl : ltW W_at := cst_lt _ (by decide)
  have hC := hz.2.2.2.1
  unfold cB2 bT2
  rw [g9, obs, gR_ok hz.1.1.1.1 hz.1.1.2.1.2.2.2, obs, gI_ok hC.1.1, obs, hC.2.2.2.1 8 (by omega) (by omega), ck_ok hz.1.1.1.1, obs, cW_at, hz.2.2.2.2.2.1.1.1, i0, i1, iI_sub]
  rcases hz.told hT hG (w := W_at) c9 hl (lo := 0) (hi := vN ν 8 - 1) (by omega) (by omega) with ⟨y2, s2, τ2, v, e1, e2, hz2, e4, e5, e6, e7⟩ | ⟨y2, s2, k, p, v, e1, e2, e3, e4, e5, e6, e7⟩
  · have rd := hz.aft hT hG (w := W_at) c9 hl (lo := 0) (hi := vN ν 8 - 1) (by omega) (by omega) e1
    obtain ⟨h2, f2, g2⟩ := h.rd rd hz2
    obtain ⟨b1, b2, b3⟩ := h2.sf 2 (iI v)
    rw [e1, e2, obs, obs]
    simp only [Sum.elim_inr]
    rw [b1, obs, sto_aw w0 (by omega) (by omega), obs]
    have fa : fr [] [13] s2 (aw s2 13 (vN ν 0).toNat (iI v)) := fr.refl.aw rfl
    have b4 := b2.ms fa rfl rfl (ML_out hz2.2.2.2.2.2.1 (Or.inl ⟨Or.inr (Or.inl rfl), rfl⟩) w0 w1)
    refine S3 hT hG hg b4 (v1 := v1) (v2 := v) (w := w) ⟨?_, ?_, ?_, ?_⟩ ⟨hv, by omega, by omega⟩ hc ⟨?_, ?_, ?_⟩ ((kp.trans e4).trans b3) ((fm.trans (e5.mono rfl rfl)).aw rfl) (by omega)
    · rw [sF_get, if_neg (by omega), f2]; exact hf.1
    · rw [sF_get, if_pos ⟨rfl, rfl⟩]
    · rw [sF_get, if_neg (by omega), f2]; exact hf.2.1
    · show yj y2 (yn y0) 0 = w
      rw [g2]; exact hf.2.2
    · rw [aw_get, if_neg (by omega), e5.a 12 rfl]; exact hm.1
    · rw [aw_get, if_pos ⟨rfl, rfl⟩]
    · show s2.2.2.2 (vN ν 0).toNat = w
      rw [e5.n rfl]; exact hm.2
  · rw [e1, e2, obs, obs]
    simp only [Sum.elim_inl]
    rw [sto_aw w0 (by omega) (by omega), obs, bF3 (s := aw s2 13 (vN ν 0).toNat v) (k := k) e5.1 (by omega) w0 hc]
    left
    exact LBad.of (k := k) (p := p) rfl rfl (by omega) ⟨by omega, e3.2.2.2⟩ e4 e5 (kp.trans e6) (((fm.trans (e7.mono rfl rfl)).aw rfl).aw rfl) (by omega) (by omega)
theorem S1 (hT : txO T n) (hG : okW G) (hg : okG G) (h : BS G T n N0 R A F r O y0 y s τ ν bd le 9 36 34) {w : Int64} (hf : yf y (yn y0) 3 = iI 20 ∧ yj y (yn y0) 0 = w) (hc : vN ν 0 < 4) (hm : s.2.2.2 (vN ν 0).toNat = w) (kp : kpY N0 F 2 8 yb y) (fm : fr LK LJ sb s) (hp : p0 + 4 ≤ tP τ) : LOut G T n N0 R A F r yb sb p0 (vN ν 10) (cB1 G y R (yn y0)) (bT1 s) := by
  have hz := h.1
  have w1 : 0 ≤ vN ν 1 := hz.2.2.2.2.2.2.1.2.2.2.2.2.2.2.2.2.2.2.1
  have w0 : 0 ≤ vN ν 0 := hz.2.2.2.2.2.2.1.2.2.2.2.2.2.2.2.2.2.1.1
  obtain ⟨a10, g10, c10⟩ := hG.2.2.1 10 (by omega)
  have hl : ltW W_wide := cst_lt _ (by decide)
  have m42 : s.1 42 = iI (vN ν 0) := hz.2.2.2.2.2.1.1.2.2.2.2.1
  unfold cB1 bT1
  rw [g10, obs, ck_ok hz.1.1.1.1, obs, cW_wide, m42, i0, show (99 : Int32) = iI 99 from rfl]
  rcases hz.told hT hG (w := W_wide) c10 hl (lo := 0) (hi := 99) (by omega) (by omega) with ⟨y2, s2, τ2, v, e1, e2, hz2, e4, e5, e6, e7⟩ | ⟨y2, s2, k, p, v, e1, e2, e3, e4, e5, e6, e7⟩
  · have rd := hz.aft hT hG (w := W_wide) c10 hl (lo := 0) (hi := 99) (by omega) (by omega) e1
    obtain ⟨h2, f2, g2⟩ := h.rd rd hz2
    obtain ⟨b1, b2, b3⟩ := h2.sf 1 (iI v)
    rw [e1, e2, obs, obs]
    simp only [Sum.elim_inr]
    rw [b1, obs, sto_aw w0 (by omega) (by omega), obs]
    have fa : fr [] [12] s2 (aw s2 12 (vN ν 0).toNat (iI v)) := fr.refl.aw rfl
    have b4 := b2.ms fa rfl rfl (ML_out hz2.2.2.2.2.2.1 (Or.inl ⟨Or.inl rfl, rfl⟩) w0 w1)
    refine S2 hT hG hg b4 (v1 := v) (w := w) ⟨?_, ?_, ?_⟩ e6 hc ⟨?_, ?_⟩ ((kp.trans e4).trans b3) ((fm.trans (e5.mono rfl rfl)).aw rfl) (by omega)
    · rw [sF_get, if_pos ⟨rfl, rfl⟩]
    · rw [sF_get, if_neg (by omega), f2]; exact hf.1
    · show yj y2 (yn y0) 0 = w
      rw [g2]; exact hf.2
    · rw [aw_get, if_pos ⟨rfl, rfl⟩]
    · show s2.2.2.2 (vN ν 0).toNat = w
      rw [e5.n rfl]; exact hm
  · rw [e1, e2, obs, obs]
    simp only [Sum.elim_inl]
    rw [sto_aw w0 (by omega) (by omega), obs, bF2 (s := aw s2 12 (vN ν 0).toNat v) (k := k) e5.1 (by omega) w0 hc]
    left
    exact LBad.of (k := k) (p := p) rfl rfl (by omega) ⟨by omega, e3.2.2.2⟩ e4 e5 (kp.trans e6) ((((fm.trans (e7.mono rfl rfl)).aw rfl).aw rfl).aw rfl) (by omega) (by omega)
theorem L_board (hT : txO T n) (hG : okW G) (hg : okG G) (h : LZ G T n N0 R A F r O y s τ ν bd le) (hL : vN ν 10 ≤ 1900) (h16 : vN ν 16 = if vN ν 10 = 0 then 0 else 1) (hw : isW τ W_board) : LLn G T n N0 R A F r y s τ ν := by
  obtain ⟨H1, H2⟩ := hd_board hT hG h hL h16 hw
  by_cases cz : vN ν 0 < 4
  · obtain ⟨y1, s1, k1, h1, k2, f1, eC, eM⟩ := H1 cz
    have hpe : tE τ = tP τ + 5 := isW_len h.1.2.2 hw (by decide)
    have tb := h.1.2.2.1
    have hn := hT.1
    obtain ⟨tk1, tp1⟩ := tk_ok (T := T) (n := n) (p := tE τ) (by omega) (by omega)
    have m42 : s.1 42 = iI (vN ν 0) := h.2.2.2.2.2.1.1.2.2.2.2.1
    have w0 : 0 ≤ vN ν 0 := h.2.2.2.2.2.2.1.2.2.2.2.2.2.2.2.2.2.1.1
    have w1 : 0 ≤ vN ν 1 := h.2.2.2.2.2.2.1.2.2.2.2.2.2.2.2.2.2.2.1
    refine ⟨fm_readBoard s, eM, ?_⟩
    show LOut G T n N0 R A F r y s (tP τ) (vN ν 10 + 1) (fy_Reader_line G y R) (fm_readBoard s)
    rw [eC, ck_ok h1.1.1.1.1, obs, elim_id]
    -- labels of what is new
    have eO : ∀ q, q < yn y1 → (fun a => if a < yn y1 then O a else if a = yn y1 then 36 else 34) q = O q := fun q hq => if_pos hq
    have eB : (fun a => if a < yn y1 then O a else if a = yn y1 then 36 else 34) (yn y1) = 36 := by
      show (if yn y1 < yn y1 then O (yn y1) else if yn y1 = yn y1 then 36 else 34) = 36
      rw [if_neg (by omega), if_pos rfl]
    have eA : ∀ a, yn y1 < a → (fun a => if a < yn y1 then O a else if a = yn y1 then 36 else 34) a = 34 := fun a ha => by
      show (if a < yn y1 then O a else if a = yn y1 then 36 else 34) = 34
      rw [if_neg (by omega), if_neg (by omega)]
    generalize (fun a => if a < yn y1 then O a else if a = yn y1 then 36 else 34) = O' at eO eB eA
    have h1' := h1.rel eO
    have hC1 := h1'.2.2.2.1
    have f9 : yF O' [] 1 4 y1 (nO y1 9) := yF.refl.no (k := 9)
    have hZ := h1'.fr0 f9
    have hC := hZ.2.2.2.1
    have t9 : yt (nO y1 9) (yn y1) = some (.inr 9) := by rw [nO_t, if_pos rfl]
    have n9 : yn (nO y1 9) = yn y1 + 1 := rfl
    have hRn : ¬ R = yn y1 := by have := h1.1.1.1.2; omega
    have hNn : N0 ≤ yn y1 := by have := h1.1.1.1.2; have := h1.2.1.2.2.2.2.2.2.2.2.2.1; omega
    rw [cB_def]
    unfold mk
    rw [obs]
    simp only
    generalize hy2 : nO y1 9 = y2 at *
    rw [gR_ok hZ.1.1.1.1 hZ.1.1.2.1.2.2.2, obs, gR_ok hC.1.1 hC.2.1.1, obs, ck_ok hZ.1.1.1.1, obs]
    have kp2 : kpY N0 F 1 4 y y2 := (k2.trans (f9.kp h1'.2.1 hNn rfl)).mono (by omega) (by omega)
    have fm1 : fr LK LJ s s1 := f1.mono rfl rfl
    have hMn := hZ.2.2.2.2.2.1
    have m42' : s1.1 42 = iI (vN ν 0) := hMn.1.2.2.2.2.1
    obtain ⟨N1, N2⟩ := m_newName (s0 := s) (W := vW ν 0) hZ.2.2.2.2.1.2.1 tk1 hZ.2.2.2.2.1.2.2.1 k1 (b := 0) (m := vN ν 0) (by omega) w0 (by omega) (fun i i1 i2 => by
      rw [Int.zero_add]
      have := hMn.2.2.2.1.1 i.toNat (show ((i.toNat : Nat) : Int) < vN ν 0 by omega)
      rw [this]
      show vW ν 0 ((i.toNat : Nat) : Int) = _
      rw [Int.toNat_of_nonneg i1])
    rw [bT_def, m42, i0]
    have hls : lsY G O' y2 (r + 1) 34 (vN ν 0) bd := hC.2.2.2.2.2.1
    rcases c_fresh (W := vW ν 0) hT hG hZ hls (by omega) rfl (fun i i1 i2 => by
      obtain ⟨q1, q2, q3, q4, q5, q6, q7⟩ := hC.2.2.2.2.2.2.2.1 i i1 i2
      exact ⟨q3, Or.inl q1, q7⟩) with ⟨nN, ec⟩ | ⟨nN, u, fu, hZu, hcase⟩
    · have fb := fkT_b (tk T n (tE τ))
      rw [ec, N1 nN, obs, obs]
      simp only [Sum.elim_inl]
      rw [bF1 (s := wrM s1 (fkT (tk T n (tE τ))) (tP (tk T n (tE τ)))) (k := fkT (tk T n (tE τ))) rfl (by omega) w0 cz m42']
      left
      exact LBad.of (k := fkT (tk T n (tE τ))) (p := tP (tk T n (tE τ))) rfl rfl (by omega) ⟨by omega, by have := tk1.1; omega⟩ wr_get ⟨rfl, rfl⟩ (kp2.trans kp_wr) ((((fm1.trans (wrM_fr.mono rfl rfl)).aw rfl).aw rfl).aw rfl) (by omega) (by omega)
    · have kpu : kpY N0 F 2 8 y u := kp2.trans (fu.kp h1'.2.1 (by omega) rfl)
      obtain ⟨N3, N4⟩ := N2 nN
      rcases hcase with ⟨hcl, ec⟩ | ⟨hcl, ec⟩
      · rw [ec, N3 hcl, obs, obs]
        simp only [Sum.elim_inl]
        rw [bF1 (s := wrM s1 3 (tP (tk T n (tE τ)))) (k := 3) rfl (by omega) w0 cz m42']
        left
        exact LBad.of (k := 3) (p := tP (tk T n (tE τ))) rfl rfl (by omega) ⟨by omega, by have := tk1.1; omega⟩ wr_get ⟨rfl, rfl⟩ (kpu.trans kp_wr) ((((fm1.trans (wrM_fr.mono rfl rfl)).aw rfl).aw rfl).aw rfl) (by omega) (by omega)
      · -- the name is kept, the next token read
        rw [ec, N4 hcl, Int.zero_add]
        have fn : fr [] [100] s1 (mSn s1 (vp_updL s1.2.2.2 (vN ν 0).toNat (tW (tk T n (tE τ))))) := fr.refl.sn rfl
        have eN : (mSn s1 (vp_updL s1.2.2.2 (vN ν 0).toNat (tW (tk T n (tE τ))))).2.2.2 (vN ν 0).toNat = tW (tk T n (tE τ)) := if_pos rfl
        have hM3 : ML (mSn s1 (vp_updL s1.2.2.2 (vN ν 0).toNat (tW (tk T n (tE τ))))) (upN (vN ν) 10 (vN ν 10 + 1), vV ν, vW ν, vH ν) := ML_fr2 hMn (fn.mono rfl rfl) hMn.2.2.1 ⟨fun k hk => if_neg (by have q : (k : Int) < vN ν 0 := hk; omega), fun k hk => if_neg (by omega)⟩
        have hZ3 := hZu.ms fn rfl rfl hM3
        generalize hs3 : mSn s1 (vp_updL s1.2.2.2 (vN ν 0).toNat (tW (tk T n (tE τ)))) = s3 at *
        obtain ⟨y4, x1, x2, x3⟩ := c_adv (G := G) hT hZ3.1.1 hZ3.1.2.1 tk1 (by omega)
        obtain ⟨s4, z1, z2, z3⟩ := m_adv hT hZ3.2.2.2.2.1.1 hZ3.2.2.2.2.1.2.1 tk1 (by omega)
        obtain ⟨tk2, tp2⟩ := tk_ok (T := T) (n := n) (p := tE (tk T n (tE τ))) (by have := tk1.1; omega) (by have := tk1.1; omega)
        have hZ4 := hZ3.rd x2 x3 tk2 z2 z3
        have fu1 : yF O' LF 2 8 y1 u := (f9.trans fu).m0 rfl
        have tu : yt u (yn y1) = some (.inr 9) := by rw [fu.tag (by omega)]; exact t9
        have nu : yn y1 < yn u := by have := fu.nx; omega
        have hB : BS G T n N0 R A F r O' y1 u s3 (tk T n (tE τ)) (upN (vN ν) 10 (vN ν 10 + 1), vV ν, vW ν, vH ν) bd le 9 36 34 := ⟨hZ3, hC1, fu1, ⟨tu, nu, eB, eA⟩, hRn, hNn⟩
        obtain ⟨hB4, b1, b2⟩ := hB.rd x2 hZ4
        have hp1 := tk1.2.2.2.1 (by omega) (by omega)
        rw [x1, z1, obs, obs, obs]
        simp only [Sum.elim_inr]
        -- the new board gets its name
        have hI : fy_Board_init G y4 (yn y1) (tW (tk T n (tE τ))) = some (sF (sJ y4 (yn y1) 0 (tW (tk T n (tE τ)))) (yn y1) 3 (iI 20)) := by
          unfold fy_Board_init fy_Called_init
          rw [wJ2_bl (Or.inl hB4.2.2.2.1.1), obs, obs, wI_ok (show yt (sJ y4 (yn y1) 0 (tW (tk T n (tE τ)))) (yn y1) = some (.inr 9) from hB4.2.2.2.1.1), obs]
          rfl
        have hB5 : BS G T n N0 R A F r O' y1 (sJ y4 (yn y1) 0 (tW (tk T n (tE τ)))) s4 (tk T n (tE (tk T n (tE τ)))) (upN (vN ν) 10 (vN ν 10 + 1), vV ν, vW ν, vH ν) bd le 9 36 34 := by
          obtain ⟨p1, p2, p3, p4, p5, p6⟩ := hB4
          exact ⟨p1.sjN p2 p3 rfl (Nat.le_refl _) p5, p2, p3.sjN (Nat.le_refl _), p4, p5, p6⟩
        obtain ⟨-, hB6, kb⟩ := hB5.sf 3 (iI 20)
        have kj : kpY N0 F 0 0 y4 (sJ y4 (yn y1) 0 (tW (tk T n (tE τ)))) := by
          refine ⟨⟨Nat.le_refl _, Nat.le_refl _, Nat.le_refl _⟩, fun q hq => ⟨rfl, rfl, rfl, rfl, ?_, fun _ => rfl⟩⟩
          funext j
          rw [sJ_get, if_neg (by omega)]
        rw [hI, obs]
        exact S1 hT hG hg hB6 (w := tW (tk T n (tE τ))) ⟨by rw [sF_get, if_pos ⟨rfl, rfl⟩], by show yj (sJ y4 (yn y1) 0 (tW (tk T n (tE τ)))) (yn y1) 0 = _; rw [sJ_get, if_pos ⟨rfl, rfl⟩]⟩ cz (by show s4.2.2.2 (vN ν 0).toNat = _; rw [z3.n rfl]; exact eN) (((kpu.trans (x2.kp h1.2.1.2.2.2.2.2.2.2.2.2.1)).trans kj).trans kb) ((fm1.trans (fn.mono rfl rfl)).trans (z3.mono rfl rfl)) (by omega)
  · obtain ⟨e1, e2⟩ := H2 cz
    exact L_no hT h e1 e2
end N9

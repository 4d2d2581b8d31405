/-! LAYER 3, the lines: load -/
set_option maxRecDepth 100000
noncomputable def cL1 (G : ai_G) (u : yS) (v0 b : Nat) : Option ((Nat ⊕ Unit) × yS) :=
  (cst G 10).bind fun x21 => (ck 8 u v0).bind fun _ => (fy_Reader_after G u v0 x21 0 99).bind fun p26 => Sum.elim (fun q26 => some (.inl q26, p26.2)) (fun v26 => (wI 10 1 p26.2 b v26).bind fun s29 => cB4 1 G s29 v0 b) p26.1
theorem cL_def (G : ai_G) (s : yS) (v0 : Nat) : fy_Reader_load G s v0 = ((mk 10 s).bind fun s0 => (gR 8 3 s0.2 v0).bind fun x6 => (gR 1 1 s0.2 x6).bind fun x9 => (ck 8 s0.2 v0).bind fun _ => (fy_Reader_fresh G s0.2 v0 x9).bind fun p12 => Sum.elim (fun q12 => some (.inl q12, p12.2)) (fun v12 => (fy_Load_init G p12.2 s0.1 v12).bind fun p15 => cL1 G p15 v0 s0.1) p12.1) := rfl
noncomputable def bL2 (s : mS) : Option mS := if (s.1 2) = 0 then ((pI 43 s ((s.1 43) + 1)).bind fun s42 => some s42) else (some s)
noncomputable def bL1 (s : mS) : Option mS := (fm_told s 2003395685 0 99).bind fun p24 => (sto 15 7 p24.2 (s.1 43) p24.1).bind bL2
theorem bL_def (s : mS) : fm_readLoad s = (fm_newName s 4 (s.1 43)).bind bL1 := rfl
section O0
variable {G : ai_G} {T : Int → Int} {n : Int} {N0 R A F r : Nat} {O O' : Nat → Nat} {y y0 y1 yb : yS} {s s0 s1 sb : mS} {τ τ1 : Tk} {ν : Lv} {bd le : Nat → Nat} {c d cls lab al : Nat} {K J L : List Nat} {p0 : Int}
theorem lF2 {k : Int} (h2 : s.1 2 = iI k) (hk : 1 ≤ k ∧ k ≤ 4) : bL2 s = some s := by
  unfold bL2
  rw [if_neg]
  rw [h2, i0, iI_eq (by omega) (by omega) (by omega) (by omega)]
  omega
theorem lF1 {k z : Int} (h2 : s.1 2 = iI k) (hk : 1 ≤ k ∧ k ≤ 4) (h0 : 0 ≤ z) (h4 : z < 7) (h43 : s.1 43 = iI z) : bL1 s = some (aw s 15 z.toNat (iI 0)) := by
  unfold bL1
  rw [m_toldF h2 hk, obs, h43]
  simp only
  rw [sto_aw h0 (by omega) (by omega), obs]
  exact lF2 (s := aw s 15 z.toNat (iI 0)) h2 hk
/-- a load is laid into the list -/
theorem D4 (hg : okG G) (h : LZ G T n N0 R A F r O y s τ ν bd le) {b : Nat} {v1 : Int} {w : Int64} (hb : yt y b = some (.inr 10) ∧ O b = 37 ∧ b < yn y) (hO : O (yn y) = 35) (hf : yf y b 1 = iI v1 ∧ yj y b 0 = w) (hv : 0 ≤ v1 ∧ v1 ≤ 99) (hc : vN ν 1 < 7) (hm : s.2.2.1 15 (vN ν 1).toNat = iI v1 ∧ s.2.2.2 (4 + (vN ν 1).toNat) = w) :
    ∃ y' s' ν' le', cB4 1 G y R b = some (.inr (), y') ∧ bL2 s = some s' ∧ LZ G T n N0 R A F r O y' s' τ ν' bd le' ∧ vN ν' 10 = vN ν 10 ∧ kpY N0 F 1 60 y y' ∧ fr [43] [] s s' := by
  obtain ⟨⟨a1, a2, a3⟩, hlab, hold, hC, ⟨e1, e2, e3, e4⟩, hM, hw⟩ := h
  obtain ⟨⟨w8, w9, w10, w11, w12, w13, w6, w7, w14, w15, w0, wl⟩, wz, wb, wL, wh, w16, w17⟩ := hw
  obtain ⟨⟨c1, c2⟩, ⟨rr0, rr1, rr⟩, ct, ci, ca, l1, l2, bs, ls, ht⟩ := hC
  have hrn : r < yn y := by omega
  have hlab' := hlab
  obtain ⟨o0, o1, o2, o3, ⟨o4, o5, o6⟩, o7, -⟩ := hlab'
  obtain ⟨y', g1, g2, g3⟩ := l_add (v := b) hg l2 (by omega) ⟨10, hb.1, by decide⟩ hb.2.2 (fun i hi => by
    obtain ⟨q1, q2, q3, -⟩ := ls i (by omega) hi
    exact ⟨q3, 10, q1, by decide⟩) hO (by decide)
  have hn := g2.nx
  obtain ⟨r1, r2⟩ := RB_fr a1 a2 hlab g2 rfl
  have er : yr y' r = yr y r := g2.ref hrn (by rw [o1]; rfl)
  have m43 := hM.1.2.2.2.2.2.1
  have em : bL2 s = some (mSi s 43 (iI (vN ν 1 + 1))) := by
    unfold bL2
    rw [e3, if_pos (show iI 0 = 0 from rfl), m43, i1, iI_add]
    rfl
  have fm : fr [43] [] s (mSi s 43 (iI (vN ν 1 + 1))) := fr.refl.si rfl
  refine ⟨y', _, (upN (vN ν) 1 (vN ν 1 + 1), (fun k => if k = 6 then upI (vV ν 6) (vN ν 1) v1 else vV ν k), (fun k => if k = 1 then (fun i => if i = vN ν 1 then w else vW ν 1 i) else vW ν k), vH ν), (fun i => if i = (vN ν 1).toNat then b else le i), ?_, em, ⟨⟨r1, r2, a3⟩, hlab, hold.fr g2, ?_, ⟨e1.fr fm rfl rfl, e2.fr fm rfl rfl rfl rfl rfl, e3, e4⟩, ?_, ?_⟩, rfl, g2.kp hlab (by have := hlab.2.2.2.2.2.2.2.2.2.2.1; omega) rfl, fm⟩
  · unfold cB4
    rw [gR_ok a1.1.1 a1.2.1.2.2.2, obs, gR_ok c1 rr1, obs, ck_ok l2.1.1, obs, g1, obs]
  · refine ⟨⟨by rw [g2.tag hrn]; exact c1, by omega⟩, by rw [er]; exact ⟨rr0, rr1, rr⟩, ⟨by rw [g2.tag (by omega)]; exact ct.1, by rw [g2.tag (by omega)]; exact ct.2.1, by rw [g2.tag (by omega)]; exact ct.2.2.1, by rw [g2.tag (by omega)]; exact ct.2.2.2⟩, fun k k1 k2 => ?_, fun z z1 z2 => ?_, l1.fr g2 rfl rfl rfl, g3, fun i k1 k2 => ?_, fun i i1 i2 => ?_, ?_⟩
    · rw [g2.int hrn (by
        unfold lbF
        rw [o1, if_pos rfl]
        have : k = 6 ∨ k = 7 ∨ k = 8 ∨ k = 9 ∨ k = 10 ∨ k = 11 ∨ k = 12 ∨ k = 13 ∨ k = 14 ∨ k = 15 := by omega
        rcases this with z | z | z | z | z | z | z | z | z | z <;> subst z <;> rfl)]
      have e9 : upN (vN ν) 1 (vN ν 1 + 1) k = vN ν k := by
        unfold upN
        rw [if_neg (by omega)]
      show _ = iI (upN (vN ν) 1 (vN ν 1 + 1) k)
      rw [e9]
      exact ci k k1 k2
    · rw [g2.arr (a := r + 3) (by omega) (by rw [o4]; rfl), g2.arr (a := r + 4) (by omega) (by rw [o5]; rfl), g2.arr (a := r + 5) (by omega) (by rw [o6]; rfl)]
      exact ca z z1 z2
    · replace k2 : i < vN ν 0 := k2
      obtain ⟨q1, q2, q3, q4, q5, q6, q7⟩ := bs i k1 k2
      have ef : ∀ k, yf y' (bd i.toNat) k = yf y (bd i.toNat) k := fun k => g2.int q3 (by rw [lbF_ne q2 (by decide)]; rfl)
      exact ⟨by rw [g2.tag q3]; exact q1, q2, by omega, by rw [ef]; exact q4, by rw [ef]; exact q5, by rw [ef]; exact q6, by rw [g2.lng q3 (by rw [q2]; rfl)]; exact q7⟩
    · replace i2 : i < vN ν 1 + 1 := i2
      by_cases q : i = vN ν 1
      · subst q
        have ef : ∀ k, yf y' b k = yf y b k := fun k => g2.int hb.2.2 (by rw [lbF_ne hb.2.1 (by decide)]; rfl)
        simp only [if_true]
        refine ⟨by rw [g2.tag hb.2.2]; exact hb.1, hb.2.1, by omega, ?_, ?_⟩
        · rw [ef, hf.1]; show iI v1 = iI (upI (vV ν 6) (vN ν 1) v1 (vN ν 1)); unfold upI; rw [if_pos rfl]
        · rw [g2.lng hb.2.2 (by rw [hb.2.1]; rfl), hf.2]; exact (if_pos rfl).symm
      · obtain ⟨q1, q2, q3, q4, q5⟩ := ls i i1 (by omega)
        have ef : ∀ k, yf y' (le i.toNat) k = yf y (le i.toNat) k := fun k => g2.int q3 (by rw [lbF_ne q2 (by decide)]; rfl)
        rw [show (fun i => if i = (vN ν 1).toNat then b else le i) i.toNat = le i.toNat from if_neg (show ¬ i.toNat = (vN ν 1).toNat by omega)]
        refine ⟨by rw [g2.tag q3]; exact q1, q2, by omega, ?_, ?_⟩
        · rw [ef, q4]; show _ = iI (upI (vV ν 6) (vN ν 1) v1 i); unfold upI; rw [if_neg q]
        · rw [g2.lng q3 (by rw [q2]; rfl), q5]; exact (if_neg q).symm
    · rw [er]
      rcases ht with ht | ⟨q, q1, q2⟩
      · exact Or.inl ht
      · exact Or.inr ⟨q, q1, trY.fr g2 rfl rfl _ _ _ q2⟩
  · obtain ⟨⟨x1, x2, x3, x4, x5, x6, x7, x8, x9, x10, x11, x12, x13⟩, xz, ⟨xa, xb, xc, xd⟩, ⟨xn, xm⟩, xh⟩ := hM
    refine ⟨⟨x1, x2, x3, x4, x5, rfl, x7, x8, x9, x10, x11, x12, x13⟩, xz, ⟨xa, xb, xc, ?_⟩, ⟨xn, fun k hk => ?_⟩, xh⟩
    · exact ar_x (s := s) xd hm.1
    · replace hk : (k : Int) < vN ν 1 + 1 := hk
      show s.2.2.2 (4 + k) = if (k : Int) = vN ν 1 then w else vW ν 1 k
      by_cases q : (k : Int) = vN ν 1
      · rw [if_pos q, ← hm.2, ← q]; rfl
      · rw [if_neg q]; exact xm k (by omega)
  · refine ⟨⟨w8, w9, w10, w11, w12, w13, w6, w7, w14, w15, w0, ?_⟩, wz, wb, fun i i1 i2 => ?_, wh, w16, w17⟩
    · show 0 ≤ vN ν 1 + 1 ∧ vN ν 1 + 1 ≤ 7
      omega
    · replace i2 : i < vN ν 1 + 1 := i2
      show 0 ≤ upI (vV ν 6) (vN ν 1) v1 i ∧ upI (vV ν 6) (vN ν 1) v1 i ≤ 99
      unfold upI
      by_cases q : i = vN ν 1
      · rw [if_pos q]; exact hv
      · rw [if_neg q]; exact wL i i1 (by omega)
theorem E1 (hT : txO T n) (hG : okW G) (hg : okG G) (h : BS G T n N0 R A F r O y0 y s τ ν bd le 10 37 35) {w : Int64} (hf : yj y (yn y0) 0 = w) (hc : vN ν 1 < 7) (hm : s.2.2.2 (4 + (vN ν 1).toNat) = w) (kp : kpY N0 F 2 8 yb y) (fm : fr LK LJ sb s) (hp : p0 + 4 ≤ tP τ) : LOut G T n N0 R A F r yb sb p0 (vN ν 10) (cL1 G y R (yn y0)) (bL1 s) := by
  have hz := h.1
  have w1 : 0 ≤ vN ν 1 := hz.2.2.2.2.2.2.1.2.2.2.2.2.2.2.2.2.2.2.1
  have w0 : 0 ≤ vN ν 0 := hz.2.2.2.2.2.2.1.2.2.2.2.2.2.2.2.2.2.1.1
  obtain ⟨a10, g10, c10⟩ := hG.2.2.1 10 (by omega)
  have hl : ltW W_wide := cst_lt _ (by decide)
  have m43 : s.1 43 = iI (vN ν 1) := hz.2.2.2.2.2.1.1.2.2.2.2.2.1
  unfold cL1 bL1
  rw [g10, obs, ck_ok hz.1.1.1.1, obs, cW_wide, m43, i0, show (99 : Int32) = iI 99 from rfl]
  rcases hz.told hT hG (w := W_wide) c10 hl (lo := 0) (hi := 99) (by omega) (by omega) with ⟨y2, s2, τ2, v, e1, e2, hz2, e4, e5, e6, e7⟩ | ⟨y2, s2, k, p, v, e1, e2, e3, e4, e5, e6, e7⟩
  · have rd := hz.aft hT hG (w := W_wide) c10 hl (lo := 0) (hi := 99) (by omega) (by omega) e1
    obtain ⟨h2, f2, g2⟩ := h.rd rd hz2
    obtain ⟨b1, b2, b3⟩ := h2.sf 1 (iI v)
    rw [e1, e2, obs, obs]
    simp only [Sum.elim_inr]
    rw [b1, obs, sto_aw w1 (by omega) (by omega), obs]
    have fa : fr [] [15] s2 (aw s2 15 (vN ν 1).toNat (iI v)) := fr.refl.aw rfl
    have b4 := b2.ms fa rfl rfl (ML_out hz2.2.2.2.2.2.1 (Or.inr ⟨rfl, rfl⟩) w0 w1)
    obtain ⟨y', s', ν', le', u1, u2, u3, u4, u5, u6⟩ := D4 hg b4.1 (v1 := v) (w := w) ⟨b4.2.2.2.1.1, b4.2.2.2.1.2.2.1, b4.2.2.2.1.2.1⟩ (b4.2.2.2.1.2.2.2 _ b4.2.2.2.1.2.1) ⟨by rw [sF_get, if_pos ⟨rfl, rfl⟩], by show yj y2 (yn y0) 0 = w; rw [g2]; exact hf⟩ e6 hc ⟨by rw [aw_get, if_pos ⟨rfl, rfl⟩], by show s2.2.2.2 (4 + (vN ν 1).toNat) = w; rw [e5.n rfl]; exact hm⟩
    exact Or.inr ⟨O, y', s', τ2, ν', bd, le', u1, u2, u3, u4, (((kp.trans e4).trans b3).trans u5).mono (by omega) (by omega), by omega, ((fm.trans (e5.mono rfl rfl)).aw rfl).trans (u6.mono rfl rfl)⟩
  · rw [e1, e2, obs, obs]
    simp only [Sum.elim_inl]
    rw [sto_aw w1 (by omega) (by omega), obs, lF2 (s := aw s2 15 (vN ν 1).toNat v) (k := k) e5.1 (by omega)]
    left
    exact LBad.of (k := k) (p := p) rfl rfl (by omega) ⟨by omega, e3.2.2.2⟩ e4 e5 (kp.trans e6) ((fm.trans (e7.mono rfl rfl)).aw rfl) (by omega) (by omega)
theorem L_load (hT : txO T n) (hG : okW G) (hg : okG G) (h : LZ G T n N0 R A F r O y s τ ν bd le) (hL : vN ν 10 ≤ 1900) (h16 : vN ν 16 = if vN ν 10 = 0 then 0 else 1) (hw : isW τ W_load) : LLn G T n N0 R A F r y s τ ν := by
  obtain ⟨H1, H2⟩ := hd_load hT hG h hL h16 hw
  by_cases cz : vN ν 1 < 7
  · obtain ⟨y1, s1, k1, h1, k2, f1, eC, eM⟩ := H1 cz
    have hpe : tE τ = tP τ + 4 := isW_len h.1.2.2 hw (by decide)
    have tb := h.1.2.2.1
    have hn := hT.1
    obtain ⟨tk1, tp1⟩ := tk_ok (T := T) (n := n) (p := tE τ) (by omega) (by omega)
    have m43 : s.1 43 = iI (vN ν 1) := h.2.2.2.2.2.1.1.2.2.2.2.2.1
    have w0 : 0 ≤ vN ν 0 ∧ vN ν 0 ≤ 4 := h.2.2.2.2.2.2.1.2.2.2.2.2.2.2.2.2.2.1
    have w1 : 0 ≤ vN ν 1 := h.2.2.2.2.2.2.1.2.2.2.2.2.2.2.2.2.2.2.1
    refine ⟨fm_readLoad s, eM, ?_⟩
    show LOut G T n N0 R A F r y s (tP τ) (vN ν 10 + 1) (fy_Reader_line G y R) (fm_readLoad s)
    rw [eC, ck_ok h1.1.1.1.1, obs, elim_id]
    have eO : ∀ q, q < yn y1 → (fun a => if a < yn y1 then O a else if a = yn y1 then 37 else 35) q = O q := fun q hq => if_pos hq
    have eB : (fun a => if a < yn y1 then O a else if a = yn y1 then 37 else 35) (yn y1) = 37 := by
      show (if yn y1 < yn y1 then O (yn y1) else if yn y1 = yn y1 then 37 else 35) = 37
      rw [if_neg (by omega), if_pos rfl]
    have eA : ∀ a, yn y1 < a → (fun a => if a < yn y1 then O a else if a = yn y1 then 37 else 35) a = 35 := fun a ha => by
      show (if a < yn y1 then O a else if a = yn y1 then 37 else 35) = 35
      rw [if_neg (by omega), if_neg (by omega)]
    generalize (fun a => if a < yn y1 then O a else if a = yn y1 then 37 else 35) = O' at eO eB eA
    have h1' := h1.rel eO
    have hC1 := h1'.2.2.2.1
    have f9 : yF O' [] 1 4 y1 (nO y1 10) := (yF.refl.no (L := []) (c := 0) (d := 0) (k := 10)).mono rfl (Nat.le_refl _) (by decide)
    have hZ := h1'.fr0 f9
    have hC := hZ.2.2.2.1
    have t9 : yt (nO y1 10) (yn y1) = some (.inr 10) := by rw [nO_t, if_pos rfl]
    have n9 : yn (nO y1 10) = yn y1 + 1 := rfl
    have hRn : ¬ R = yn y1 := by have := h1.1.1.1.2; omega
    have hNn : N0 ≤ yn y1 := by have := h1.1.1.1.2; have := h1.2.1.2.2.2.2.2.2.2.2.2.1; omega
    rw [cL_def]
    unfold mk
    rw [obs]
    simp only
    generalize hy2 : nO y1 10 = y2 at *
    rw [gR_ok hZ.1.1.1.1 hZ.1.1.2.1.2.2.2, obs, gR_ok hC.1.1 hC.2.1.2.1, obs, ck_ok hZ.1.1.1.1, obs]
    have kp2 : kpY N0 F 1 4 y y2 := (k2.trans (f9.kp h1'.2.1 hNn rfl)).mono (by omega) (by omega)
    have fm1 : fr LK LJ s s1 := f1.mono rfl rfl
    have hMn := hZ.2.2.2.2.2.1
    have m43' : s1.1 43 = iI (vN ν 1) := hMn.1.2.2.2.2.2.1
    obtain ⟨N1, N2⟩ := m_newName (s0 := s) (W := vW ν 1) hZ.2.2.2.2.1.2.1 tk1 hZ.2.2.2.2.1.2.2.1 k1 (b := 4) (m := vN ν 1) (by omega) w1 (by omega) (fun i i1 i2 => by
      have := hMn.2.2.2.1.2 i.toNat (show ((i.toNat : Nat) : Int) < vN ν 1 by omega)
      rw [show (4 + i).toNat = 4 + i.toNat by omega, this]
      show vW ν 1 ((i.toNat : Nat) : Int) = _
      rw [Int.toNat_of_nonneg i1])
    rw [bL_def, m43, show (4 : Int32) = iI 4 from rfl]
    have hls : lsY G O' y2 (r + 2) 35 (vN ν 1) le := hC.2.2.2.2.2.2.1
    rcases c_fresh (W := vW ν 1) hT hG hZ hls (by omega) rfl (fun i i1 i2 => by
      obtain ⟨q1, q2, q3, q4, q5⟩ := hC.2.2.2.2.2.2.2.2.1 i i1 i2
      exact ⟨q3, Or.inr q1, q5⟩) with ⟨nN, ec⟩ | ⟨nN, u, fu, hZu, hcase⟩
    · have fb := fkT_b (tk T n (tE τ))
      rw [ec, N1 nN, obs, obs]
      simp only [Sum.elim_inl]
      rw [lF1 (s := wrM s1 (fkT (tk T n (tE τ))) (tP (tk T n (tE τ)))) (k := fkT (tk T n (tE τ))) rfl (by omega) w1 cz m43']
      left
      exact LBad.of (k := fkT (tk T n (tE τ))) (p := tP (tk T n (tE τ))) rfl rfl (by omega) ⟨by omega, by have := tk1.1; omega⟩ wr_get ⟨rfl, rfl⟩ (kp2.trans kp_wr) ((fm1.trans (wrM_fr.mono rfl rfl)).aw rfl) (by omega) (by omega)
    · have kpu : kpY N0 F 2 8 y u := kp2.trans (fu.kp h1'.2.1 (by omega) rfl)
      obtain ⟨N3, N4⟩ := N2 nN
      rcases hcase with ⟨hcl, ec⟩ | ⟨hcl, ec⟩
      · rw [ec, N3 hcl, obs, obs]
        simp only [Sum.elim_inl]
        rw [lF1 (s := wrM s1 3 (tP (tk T n (tE τ)))) (k := 3) rfl (by omega) w1 cz m43']
        left
        exact LBad.of (k := 3) (p := tP (tk T n (tE τ))) rfl rfl (by omega) ⟨by omega, by have := tk1.1; omega⟩ wr_get ⟨rfl, rfl⟩ (kpu.trans kp_wr) ((fm1.trans (wrM_fr.mono rfl rfl)).aw rfl) (by omega) (by omega)
      · rw [ec, N4 hcl, show (4 + vN ν 1).toNat = 4 + (vN ν 1).toNat by omega]
        have fn : fr [] [100] s1 (mSn s1 (vp_updL s1.2.2.2 (4 + (vN ν 1).toNat) (tW (tk T n (tE τ))))) := fr.refl.sn rfl
        have eN : (mSn s1 (vp_updL s1.2.2.2 (4 + (vN ν 1).toNat) (tW (tk T n (tE τ))))).2.2.2 (4 + (vN ν 1).toNat) = tW (tk T n (tE τ)) := if_pos rfl
        have hM3 : ML (mSn s1 (vp_updL s1.2.2.2 (4 + (vN ν 1).toNat) (tW (tk T n (tE τ))))) (upN (vN ν) 10 (vN ν 10 + 1), vV ν, vW ν, vH ν) := ML_fr2 hMn (fn.mono rfl rfl) hMn.2.2.1 ⟨fun k hk => if_neg (by have q : (k : Int) < vN ν 0 := hk; omega), fun k hk => if_neg (by have q : (k : Int) < vN ν 1 := hk; omega)⟩
        have hZ3 := hZu.ms fn rfl rfl hM3
        generalize hs3 : mSn s1 (vp_updL s1.2.2.2 (4 + (vN ν 1).toNat) (tW (tk T n (tE τ)))) = s3 at *
        obtain ⟨y4, x1, x2, x3⟩ := c_adv (G := G) hT hZ3.1.1 hZ3.1.2.1 tk1 (by omega)
        obtain ⟨s4, z1, z2, z3⟩ := m_adv hT hZ3.2.2.2.2.1.1 hZ3.2.2.2.2.1.2.1 tk1 (by omega)
        obtain ⟨tk2, tp2⟩ := tk_ok (T := T) (n := n) (p := tE (tk T n (tE τ))) (by have := tk1.1; omega) (by have := tk1.1; omega)
        have hZ4 := hZ3.rd x2 x3 tk2 z2 z3
        have fu1 : yF O' LF 2 8 y1 u := (f9.trans fu).m0 rfl
        have tu : yt u (yn y1) = some (.inr 10) := by rw [fu.tag (by omega)]; exact t9
        have nu : yn y1 < yn u := by have := fu.nx; omega
        have hB : BS G T n N0 R A F r O' y1 u s3 (tk T n (tE τ)) (upN (vN ν) 10 (vN ν 10 + 1), vV ν, vW ν, vH ν) bd le 10 37 35 := ⟨hZ3, hC1, fu1, ⟨tu, nu, eB, eA⟩, hRn, hNn⟩
        obtain ⟨hB4, b1, b2⟩ := hB.rd x2 hZ4
        have hp1 := tk1.2.2.2.1 (by omega) (by omega)
        rw [x1, z1, obs, obs, obs]
        simp only [Sum.elim_inr]
        have hI : fy_Load_init G y4 (yn y1) (tW (tk T n (tE τ))) = some (sJ y4 (yn y1) 0 (tW (tk T n (tE τ)))) := by
          unfold fy_Load_init fy_Called_init
          rw [wJ2_bl (Or.inr hB4.2.2.2.1.1), obs, obs]
        have hB5 : BS G T n N0 R A F r O' y1 (sJ y4 (yn y1) 0 (tW (tk T n (tE τ)))) s4 (tk T n (tE (tk T n (tE τ)))) (upN (vN ν) 10 (vN ν 10 + 1), vV ν, vW ν, vH ν) bd le 10 37 35 := by
          obtain ⟨p1, p2, p3, p4, p5, p6⟩ := hB4
          exact ⟨p1.sjN p2 p3 rfl (Nat.le_refl _) p5, p2, p3.sjN (Nat.le_refl _), p4, p5, p6⟩
        have kj : kpY N0 F 0 0 y4 (sJ y4 (yn y1) 0 (tW (tk T n (tE τ)))) := by
          refine ⟨⟨Nat.le_refl _, Nat.le_refl _, Nat.le_refl _⟩, fun q hq => ⟨rfl, rfl, rfl, rfl, ?_, fun _ => rfl⟩⟩
          funext j
          rw [sJ_get, if_neg (by omega)]
        rw [hI, obs]
        exact E1 hT hG hg hB5 (w := tW (tk T n (tE τ))) (by rw [sJ_get, if_pos ⟨rfl, rfl⟩]) cz (by show s4.2.2.2 (4 + (vN ν 1).toNat) = _; rw [z3.n rfl]; exact eN) ((kpu.trans (x2.kp h1.2.1.2.2.2.2.2.2.2.2.2.1)).trans kj) ((fm1.trans (fn.mono rfl rfl)).trans (z3.mono rfl rfl)) (by omega)
  · obtain ⟨e1, e2⟩ := H2 cz
    exact L_no hT h e1 e2
end O0

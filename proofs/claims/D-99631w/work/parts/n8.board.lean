/-! LAYER 3, the lines: board -/
set_option maxRecDepth 100000
noncomputable def cB4 (k : Nat) (G : ai_G) (u : yS) (v0 b : Nat) : Option ((Nat ⊕ Unit) × yS) :=
  (gR 8 3 u v0).bind fun x73 => (gR 1 k u x73).bind fun x76 => (ck 16 u x76).bind fun _ => (fy_List_add G u x76 b).bind fun p80 => some (.inr (), p80.2)
noncomputable def cB3 (G : ai_G) (u : yS) (v0 b : Nat) : Option ((Nat ⊕ Unit) × yS) :=
  (cst G 11).bind fun x53 => (ck 8 u v0).bind fun _ => (fy_Reader_comes G u v0 x53).bind fun p55 => if p55.1 = 0 then (cB4 0 G p55.2 v0 b) else ((ck 8 p55.2 v0).bind fun _ => (fy_Reader_number G p55.2 v0 0 99).bind fun p66 => Sum.elim (fun q66 => some (.inl q66, p66.2)) (fun v66 => (wI 9 3 p66.2 b v66).bind fun s69 => cB4 0 G s69 v0 b) p66.1)
noncomputable def cB2 (G : ai_G) (u : yS) (v0 b : Nat) : Option ((Nat ⊕ Unit) × yS) :=
  (cst G 9).bind fun x34 => (gR 8 3 u v0).bind fun x38 => (gI 1 8 u x38).bind fun x41 => (ck 8 u v0).bind fun _ => (fy_Reader_after G u v0 x34 0 (x41 - 1)).bind fun p46 => Sum.elim (fun q46 => some (.inl q46, p46.2)) (fun v46 => (wI 9 2 p46.2 b v46).bind fun s49 => cB3 G s49 v0 b) p46.1
noncomputable def cB1 (G : ai_G) (u : yS) (v0 b : Nat) : Option ((Nat ⊕ Unit) × yS) :=
  (cst G 10).bind fun x21 => (ck 8 u v0).bind fun _ => (fy_Reader_after G u v0 x21 0 99).bind fun p26 => Sum.elim (fun q26 => some (.inl q26, p26.2)) (fun v26 => (wI 9 1 p26.2 b v26).bind fun s29 => cB2 G s29 v0 b) p26.1
theorem cB_def (G : ai_G) (s : yS) (v0 : Nat) : fy_Reader_board G s v0 = ((mk 9 s).bind fun s0 => (gR 8 3 s0.2 v0).bind fun x6 => (gR 1 0 s0.2 x6).bind fun x9 => (ck 8 s0.2 v0).bind fun _ => (fy_Reader_fresh G s0.2 v0 x9).bind fun p12 => Sum.elim (fun q12 => some (.inl q12, p12.2)) (fun v12 => (fy_Board_init G p12.2 s0.1 v12).bind fun p15 => cB1 G p15 v0 s0.1) p12.1) := rfl
noncomputable def bT3 (s : mS) (t : Int32) : Option mS := if (s.1 2) = 0 then ((fm_isWord s 422607680115).bind fun p66 => if p66 = 0 then (fm_readBoard_j85 s t) else ((fm_told s 422607680115 0 99).bind fun p79 => fm_readBoard_j87 p79.2 t p79.1)) else (fm_readBoard_j85 s t)
noncomputable def bT2 (s : mS) (t : Int32) : Option mS := (fm_told s 24948 0 ((s.1 38) - 1)).bind fun p46 => (sto 13 4 p46.2 t p46.1).bind fun s49 => bT3 s49 t
noncomputable def bT1 (s : mS) : Option mS := (fm_told s 2003395685 0 99).bind fun p26 => (sto 12 4 p26.2 (s.1 42) p26.1).bind fun s29 => bT2 s29 (s.1 42)
theorem bT_def (s : mS) : fm_readBoard s = (fm_newName s 0 (s.1 42)).bind bT1 := rfl
section N8
variable {G : ai_G} {T : Int → Int} {n : Int} {N0 R A F r : Nat} {O O' : Nat → Nat} {y y0 y1 yb : yS} {s s0 s1 sb : mS} {τ : Tk} {ν : Lv} {bd le : Nat → Nat} {c d : Nat} {K J L : List Nat}
theorem elim_id (z : Option ((Nat ⊕ Unit) × yS)) : (z.bind fun p => Sum.elim (fun q => some ((.inl q : Nat ⊕ Unit), p.2)) (fun _ => some (.inr (), p.2)) p.1) = z := by
  cases z with
  | none => rfl
  | some p =>
    obtain ⟨p1, p2⟩ := p
    cases p1 <;> rfl
theorem isW_len {w : List Nat} (ht : tkO T n τ) (hw : isW τ w) (hl : ltW w) : tE τ = tP τ + w.length := by
  have h1 := ht.2.2.2.2 hw.1
  have h2 := ht.1
  have := (wv_eq (T := T) (a := tP τ) (m := (tE τ - tP τ).toNat) (bs := w) (by omega) (fun k k1 k2 => h1.2.2 k k1 (by omega)) hl.1 hl.2).mp (h1.2.1.symm.trans hw.2)
  omega
theorem m_toldF {k : Int} (h2 : s.1 2 = iI k) (hk : 1 ≤ k ∧ k ≤ 4) (w : Int64) (a b : Int32) : fm_told s w a b = some (iI 0, s) := by
  unfold fm_told
  rw [m_wantF h2 hk, obs, m_numF h2 hk, obs]
theorem sto_aw {j m : Nat} {z : Int} {v : Int32} (h1 : 0 ≤ z) (h2 : z < m) (h3 : m < 2147483648) : sto j m s (iI z) v = some (aw s j z.toNat v) := sto_i h1 h2 h3
theorem bF4 {k z : Int} (h2 : s.1 2 = iI k) (hk : 1 ≤ k ∧ k ≤ 4) (h0 : 0 ≤ z) (h4 : z < 4) (v : Int32) : fm_readBoard_j87 s (iI z) v = some (aw s 14 z.toNat v) := by
  unfold fm_readBoard_j87
  rw [sto_aw h0 (by omega) (by omega), obs, if_neg]
  rw [show (aw s 14 z.toNat v).1 2 = s.1 2 from rfl, h2, i0, iI_eq (by omega) (by omega) (by omega) (by omega)]
  omega
theorem bF3 {k z : Int} (h2 : s.1 2 = iI k) (hk : 1 ≤ k ∧ k ≤ 4) (h0 : 0 ≤ z) (h4 : z < 4) : bT3 s (iI z) = some (aw s 14 z.toNat 20) := by
  unfold bT3
  rw [if_neg]
  · unfold fm_readBoard_j85
    exact bF4 h2 hk h0 h4 20
  · rw [h2, i0, iI_eq (by omega) (by omega) (by omega) (by omega)]
    omega
theorem bF2 {k z : Int} (h2 : s.1 2 = iI k) (hk : 1 ≤ k ∧ k ≤ 4) (h0 : 0 ≤ z) (h4 : z < 4) : bT2 s (iI z) = some (aw (aw s 13 z.toNat (iI 0)) 14 z.toNat 20) := by
  unfold bT2
  rw [m_toldF h2 hk, obs]
  simp only
  rw [sto_aw h0 (by omega) (by omega), obs]
  exact bF3 h2 hk h0 h4
theorem bF1 {k z : Int} (h2 : s.1 2 = iI k) (hk : 1 ≤ k ∧ k ≤ 4) (h0 : 0 ≤ z) (h4 : z < 4) (h42 : s.1 42 = iI z) : bT1 s = some (aw (aw (aw s 12 z.toNat (iI 0)) 13 z.toNat (iI 0)) 14 z.toNat 20) := by
  unfold bT1
  rw [m_toldF h2 hk, obs, h42]
  simp only
  rw [sto_aw h0 (by omega) (by omega), obs]
  exact bF2 (s := aw s 12 z.toNat (iI 0)) h2 hk h0 h4
theorem ar_x {j : Nat} {m v : Int} {f : Int → Int} (h : ar s j m f) (e : s.2.2.1 j m.toNat = iI v) : ar s j (m + 1) (upI f m v) := by
  intro z z1 z2
  unfold upI
  by_cases q : z = m
  · rw [if_pos q, q]; exact e
  · rw [if_neg q]; exact h z z1 (by omega)
theorem RB_fr (h : RB T n R A F r y) (hc : CT y R τ) (hO : labO O N0 R A F r) (f : yF O L c d y y1) (hL : L.all (fun k => !([30, 130, 50, 57].contains k)) = true) : RB T n R A F r y1 ∧ CT y1 R τ := by
  have hR := h.1.2
  have hN := hO.2.2.2.2.2.2.2.2.2.1
  have hA := hO.2.2.2.2.2.2.2.2.1
  have hF := hO.2.2.2.2.2.2.2.1
  have er : yr y1 R = yr y R := f.ref hR (by rw [hO.1]; exact off_all hL rfl)
  have ef : ∀ k, yf y1 R k = yf y R k := fun k => f.int hR (by rw [lbF_ne hO.1 (by decide)]; exact off_all hL rfl)
  have ej : yj y1 R = yj y R := f.lng hR (by rw [hO.1]; exact off_all hL rfl)
  have ea : ya y1 A = ya y A := f.arr (by omega) (by
    rw [hO.2.2.2.2.2.2.1 A hA]
    split <;> exact off_all hL rfl)
  obtain ⟨⟨a1, a2⟩, ⟨b1, b2, b3, b4⟩, ⟨c1, c2⟩, d1⟩ := h
  refine ⟨⟨⟨by rw [f.tag hR]; exact a1, by have := f.nx; omega⟩, ⟨by rw [er]; exact b1, by rw [ef]; exact b2, by rw [er]; exact b3, by rw [er]; exact b4⟩, ⟨by rw [f.tag (by omega)]; exact c1, fun z z1 z2 => by rw [ea]; exact c2 z z1 z2⟩, by rw [f.tag (by omega)]; exact d1⟩, ?_⟩
  unfold CT
  rw [ef, ef, ef, ef, ej]
  exact hc
theorem ML_fr2 (h : ML s ν) (f : fr [] [12, 13, 14, 15, 100] s s1) (h1 : ar s1 12 (vN ν 0) (vV ν 3) ∧ ar s1 13 (vN ν 0) (vV ν 4) ∧ ar s1 14 (vN ν 0) (vV ν 5) ∧ ar s1 15 (vN ν 1) (vV ν 6)) (h2 : (∀ k : Nat, (k : Int) < vN ν 0 → s1.2.2.2 k = s.2.2.2 k) ∧ ∀ k : Nat, (k : Int) < vN ν 1 → s1.2.2.2 (4 + k) = s.2.2.2 (4 + k)) : ML s1 ν := by
  obtain ⟨⟨a1, a2, a3, a4, a5, a6, a7, a8, a9, a10, a11, a12, a13⟩, b, c, ⟨d1, d2⟩, e⟩ := h
  refine ⟨⟨?_, ?_, ?_, ?_, ?_, ?_, ?_, ?_, ?_, ?_, ?_, ?_, ?_⟩, fun z z1 z2 => ?_, h1, ⟨fun k hk => (h2.1 k hk).trans (d1 k hk), fun k hk => (h2.2 k hk).trans (d2 k hk)⟩, fun hH => ?_⟩
  · rw [f.s 38 rfl]; exact a1
  · rw [f.s 39 rfl]; exact a2
  · rw [f.s 40 rfl]; exact a3
  · rw [f.s 41 rfl]; exact a4
  · rw [f.s 42 rfl]; exact a5
  · rw [f.s 43 rfl]; exact a6
  · rw [f.s 44 rfl]; exact a7
  · rw [f.s 45 rfl]; exact a8
  · rw [f.s 51 rfl]; exact a9
  · rw [f.s 52 rfl]; exact a10
  · rw [f.s 53 rfl]; exact a11
  · rw [f.s 24 rfl]; exact a12
  · rw [f.s 20 rfl]; exact a13
  · rw [f.a 10 rfl, f.a 11 rfl]; exact b z z1 z2
  · rw [f.s 17 rfl, f.a 3 rfl, f.a 4 rfl]; exact e hH
theorem ar_out {j : Nat} {m z : Int} {v : Int32} {f : Int → Int} (h : ar s j m f) (hz : m ≤ z) : ar (aw s j z.toNat v) j m f := by
  intro q q1 q2
  rw [aw_get, if_neg (by omega)]
  exact h q q1 q2
theorem ML_out (h : ML s ν) {j : Nat} {z : Int} {v : Int32} (hj : (j = 12 ∨ j = 13 ∨ j = 14) ∧ z = vN ν 0 ∨ j = 15 ∧ z = vN ν 1) (h0 : 0 ≤ vN ν 0) (h1 : 0 ≤ vN ν 1) : ML (aw s j z.toNat v) ν := by
  obtain ⟨c1, c2, c3, c4⟩ := h.2.2.1
  refine ML_fr2 h ?_ ?_ ⟨fun _ _ => rfl, fun _ _ => rfl⟩
  · rcases hj with ⟨rfl | rfl | rfl, -⟩ | ⟨rfl, -⟩ <;> exact fr.refl.aw rfl
  · rcases hj with ⟨rfl | rfl | rfl, rfl⟩ | ⟨rfl, rfl⟩
    · exact ⟨ar_out c1 (Int.le_refl _), ar_awn c2 rfl, ar_awn c3 rfl, ar_awn c4 rfl⟩
    · exact ⟨ar_awn c1 rfl, ar_out c2 (Int.le_refl _), ar_awn c3 rfl, ar_awn c4 rfl⟩
    · exact ⟨ar_awn c1 rfl, ar_awn c2 rfl, ar_out c3 (Int.le_refl _), ar_awn c4 rfl⟩
    · exact ⟨ar_awn c1 rfl, ar_awn c2 rfl, ar_awn c3 rfl, ar_out c4 (Int.le_refl _)⟩
/-- a board is laid into the list -/
theorem B4 (hg : okG G) (h : LZ G T n N0 R A F r O y s τ ν bd le) {b : Nat} {v1 v2 v3 : Int} {w : Int64} (hb : yt y b = some (.inr 9) ∧ O b = 36 ∧ b < yn y) (hO : O (yn y) = 34) (hf : yf y b 1 = iI v1 ∧ yf y b 2 = iI v2 ∧ yf y b 3 = iI v3 ∧ yj y b 0 = w) (hv : (0 ≤ v1 ∧ v1 ≤ 99) ∧ (0 ≤ v2 ∧ v2 < vN ν 8) ∧ (0 ≤ v3 ∧ v3 ≤ 99)) (hc : vN ν 0 < 4) (hm : s.2.2.1 12 (vN ν 0).toNat = iI v1 ∧ s.2.2.1 13 (vN ν 0).toNat = iI v2 ∧ s.2.2.2 (vN ν 0).toNat = w) :
    ∃ y' s' ν' bd', cB4 0 G y R b = some (.inr (), y') ∧ fm_readBoard_j87 s (iI (vN ν 0)) (iI v3) = some s' ∧ LZ G T n N0 R A F r O y' s' τ ν' bd' le ∧ vN ν' 10 = vN ν 10 ∧ kpY N0 F 1 60 y y' ∧ fr [42] [14] s s' := by
  obtain ⟨⟨a1, a2, a3⟩, hlab, hold, hC, ⟨e1, e2, e3, e4⟩, hM, hw⟩ := h
  obtain ⟨⟨w8, w9, w10, w11, w12, w13, w6, w7, w14, w15, w0, wl⟩, wz, wb, wL, wh, w16, w17⟩ := hw
  obtain ⟨⟨c1, c2⟩, ⟨rr0, rr⟩, ct, ci, ca, l1, l2, bs, ls, ht⟩ := hC
  have hrn : r < yn y := by omega
  have hlab' := hlab
  obtain ⟨o0, o1, o2, o3, ⟨o4, o5, o6⟩, o7, -⟩ := hlab'
  obtain ⟨y', g1, g2, g3⟩ := l_add (v := b) hg l1 (by omega) ⟨9, hb.1, by decide⟩ hb.2.2 (fun i hi => by
    obtain ⟨q1, q2, q3, -⟩ := bs i (by omega) hi
    exact ⟨q3, 9, q1, by decide⟩) hO (by decide)
  have hn := g2.nx
  obtain ⟨r1, r2⟩ := RB_fr a1 a2 hlab g2 rfl
  have er : yr y' r = yr y r := g2.ref hrn (by rw [o1]; rfl)
  have m42 := hM.1.2.2.2.2.1
  have em : fm_readBoard_j87 s (iI (vN ν 0)) (iI v3) = some (mSi (aw s 14 (vN ν 0).toNat (iI v3)) 42 (iI (vN ν 0 + 1))) := by
    unfold fm_readBoard_j87
    rw [sto_aw (by omega) (by omega) (by omega), obs, show (aw s 14 (vN ν 0).toNat (iI v3)).1 = s.1 from rfl, e3, if_pos (show iI 0 = 0 from rfl), m42, i1, iI_add]
    rfl
  have fm : fr [42] [14] s (mSi (aw s 14 (vN ν 0).toNat (iI v3)) 42 (iI (vN ν 0 + 1))) := (fr.refl.aw rfl).si rfl
  refine ⟨y', _, (upN (upN (vN ν) 0 (vN ν 0 + 1)) 17 1, (fun k => if k = 3 then upI (vV ν 3) (vN ν 0) v1 else if k = 4 then upI (vV ν 4) (vN ν 0) v2 else if k = 5 then upI (vV ν 5) (vN ν 0) v3 else vV ν k), (fun k => if k = 0 then (fun i => if i = vN ν 0 then w else vW ν 0 i) else vW ν k), vH ν), (fun i => if i = (vN ν 0).toNat then b else bd i), ?_, em, ⟨⟨r1, r2, a3⟩, hlab, hold.fr g2, ?_, ⟨e1.fr fm rfl rfl, e2.fr fm rfl rfl rfl rfl rfl, e3, e4⟩, ?_, ?_⟩, rfl, g2.kp hlab (by have := hlab.2.2.2.2.2.2.2.2.2.2.1; omega) rfl, fm⟩
  · unfold cB4
    rw [gR_ok a1.1.1 a1.2.1.2.2.2, obs, gR_ok c1 rr0, obs, ck_ok l1.1.1, obs, g1, obs]
  · refine ⟨⟨by rw [g2.tag hrn]; exact c1, by omega⟩, by rw [er]; exact ⟨rr0, rr⟩, ⟨by rw [g2.tag (by omega)]; exact ct.1, by rw [g2.tag (by omega)]; exact ct.2.1, by rw [g2.tag (by omega)]; exact ct.2.2.1, by rw [g2.tag (by omega)]; exact ct.2.2.2⟩, fun k k1 k2 => ?_, fun z z1 z2 => ?_, g3, l2.fr g2 rfl rfl rfl, fun i i1 i2 => ?_, fun l k1 k2 => ?_, ?_⟩
    · rw [g2.int hrn (by
        unfold lbF
        rw [o1, if_pos rfl]
        have : k = 6 ∨ k = 7 ∨ k = 8 ∨ k = 9 ∨ k = 10 ∨ k = 11 ∨ k = 12 ∨ k = 13 ∨ k = 14 ∨ k = 15 := by omega
        rcases this with z | z | z | z | z | z | z | z | z | z <;> subst z <;> rfl)]
      have e9 : upN (upN (vN ν) 0 (vN ν 0 + 1)) 17 1 k = vN ν k := by
        unfold upN
        rw [if_neg (by omega), if_neg (by omega)]
      show _ = iI (upN (upN (vN ν) 0 (vN ν 0 + 1)) 17 1 k)
      rw [e9]
      exact ci k k1 k2
    · rw [g2.arr (a := r + 3) (by omega) (by rw [o4]; rfl), g2.arr (a := r + 4) (by omega) (by rw [o5]; rfl), g2.arr (a := r + 5) (by omega) (by rw [o6]; rfl)]
      exact ca z z1 z2
    · replace i2 : i < vN ν 0 + 1 := i2
      by_cases q : i = vN ν 0
      · subst q
        have ef : ∀ k, yf y' b k = yf y b k := fun k => g2.int hb.2.2 (by rw [lbF_ne hb.2.1 (by decide)]; rfl)
        simp only [if_true]
        refine ⟨by rw [g2.tag hb.2.2]; exact hb.1, hb.2.1, by omega, ?_, ?_, ?_, ?_⟩
        · rw [ef, hf.1]; show iI v1 = iI (upI (vV ν 3) (vN ν 0) v1 (vN ν 0)); unfold upI; rw [if_pos rfl]
        · rw [ef, hf.2.1]; show iI v2 = iI (upI (vV ν 4) (vN ν 0) v2 (vN ν 0)); unfold upI; rw [if_pos rfl]
        · rw [ef, hf.2.2.1]; show iI v3 = iI (upI (vV ν 5) (vN ν 0) v3 (vN ν 0)); unfold upI; rw [if_pos rfl]
        · rw [g2.lng hb.2.2 (by rw [hb.2.1]; rfl), hf.2.2.2]; exact (if_pos rfl).symm
      · obtain ⟨q1, q2, q3, q4, q5, q6, q7⟩ := bs i i1 (by omega)
        have ef : ∀ k, yf y' (bd i.toNat) k = yf y (bd i.toNat) k := fun k => g2.int q3 (by rw [lbF_ne q2 (by decide)]; rfl)
        rw [show (fun i => if i = (vN ν 0).toNat then b else bd i) i.toNat = bd i.toNat from if_neg (show ¬ i.toNat = (vN ν 0).toNat by omega)]
        refine ⟨by rw [g2.tag q3]; exact q1, q2, by omega, ?_, ?_, ?_, ?_⟩
        · rw [ef, q4]; show _ = iI (upI (vV ν 3) (vN ν 0) v1 i); unfold upI; rw [if_neg q]
        · rw [ef, q5]; show _ = iI (upI (vV ν 4) (vN ν 0) v2 i); unfold upI; rw [if_neg q]
        · rw [ef, q6]; show _ = iI (upI (vV ν 5) (vN ν 0) v3 i); unfold upI; rw [if_neg q]
        · rw [g2.lng q3 (by rw [q2]; rfl), q7]; exact (if_neg q).symm
    · replace k2 : l < vN ν 1 := k2
      obtain ⟨q1, q2, q3, q4, q5⟩ := ls l k1 k2
      have ef : ∀ k, yf y' (le l.toNat) k = yf y (le l.toNat) k := fun k => g2.int q3 (by rw [lbF_ne q2 (by decide)]; rfl)
      exact ⟨by rw [g2.tag q3]; exact q1, q2, by omega, by rw [ef]; exact q4, by rw [g2.lng q3 (by rw [q2]; rfl)]; exact q5⟩
    · rw [er]
      rcases ht with ht | ⟨q, q1, q2⟩
      · exact Or.inl ht
      · exact Or.inr ⟨q, q1, trY.fr g2 rfl rfl _ _ _ q2⟩
  · obtain ⟨⟨x1, x2, x3, x4, x5, x6, x7, x8, x9, x10, x11, x12, x13⟩, xz, ⟨xa, xb, xc, xd⟩, ⟨xn, xm⟩, xh⟩ := hM
    refine ⟨⟨x1, x2, x3, x4, rfl, x6, x7, x8, x9, x10, x11, x12, x13⟩, xz, ⟨?_, ?_, ?_, ?_⟩, ⟨fun k hk => ?_, xm⟩, xh⟩
    · exact ar_x (s := s) xa hm.1
    · exact ar_x (s := s) xb hm.2.1
    · exact ar_ext xc w0.1
    · exact xd
    · replace hk : (k : Int) < vN ν 0 + 1 := hk
      show s.2.2.2 k = if (k : Int) = vN ν 0 then w else vW ν 0 k
      by_cases q : (k : Int) = vN ν 0
      · rw [if_pos q, ← hm.2.2, ← q]; rfl
      · rw [if_neg q]; exact xn k (by omega)
  · refine ⟨⟨w8, w9, w10, w11, w12, w13, w6, w7, w14, w15, ?_, wl⟩, wz, fun i i1 i2 => ?_, wL, wh, w16, fun q => absurd (show (1 : Int) = 0 from q) (by decide)⟩
    · show 0 ≤ vN ν 0 + 1 ∧ vN ν 0 + 1 ≤ 4
      omega
    · replace i2 : i < vN ν 0 + 1 := i2
      show (0 ≤ upI (vV ν 3) (vN ν 0) v1 i ∧ upI (vV ν 3) (vN ν 0) v1 i ≤ 99) ∧ (0 ≤ upI (vV ν 4) (vN ν 0) v2 i ∧ upI (vV ν 4) (vN ν 0) v2 i < vN ν 8) ∧ (0 ≤ upI (vV ν 5) (vN ν 0) v3 i ∧ upI (vV ν 5) (vN ν 0) v3 i ≤ 99)
      unfold upI
      by_cases q : i = vN ν 0
      · rw [if_pos q, if_pos q, if_pos q]; exact hv
      · rw [if_neg q, if_neg q, if_neg q]; exact wb i i1 (by omega)
end N8

/-! LAYER 3, the lines: heat -/
set_option maxRecDepth 100000
section N6
variable {G : ai_G} {T : Int → Int} {n : Int} {N0 R A F r : Nat} {O O' : Nat → Nat} {y y1 : yS} {s : mS} {τ : Tk} {ν : Lv} {bd le : Nat → Nat}
theorem CLr.rel (h : CLr G O r y ν bd le) (e : ∀ q, q < yn y → O' q = O q) : CLr G O' r y ν bd le := by
  obtain ⟨a, b, c, d, ee, l1, l2, bs, ls, ht⟩ := h
  refine ⟨a, b, c, d, ee, l1.rel e, l2.rel e, fun b b1 b2 => ?_, fun l k1 k2 => ?_, ?_⟩
  · obtain ⟨g1, g2, g3, g4⟩ := bs b b1 b2
    exact ⟨g1, (e _ g3).trans g2, g3, g4⟩
  · obtain ⟨g1, g2, g3, g4⟩ := ls l k1 k2
    exact ⟨g1, (e _ g3).trans g2, g3, g4⟩
  · rcases ht with ht | ⟨q, q1, q2⟩
    · exact Or.inl ht
    · exact Or.inr ⟨q, q1, trY.rel e _ _ _ q2⟩
theorem labO.rel (h : labO O N0 R A F r) {m : Nat} (e : ∀ q, q < m → O' q = O q) (hR : R < m) (hr : r + 6 < m) (hN : N0 ≤ m) : labO O' N0 R A F r := by
  obtain ⟨h1, h2, h3, h4, ⟨h5, h6, h7⟩, h8, h9, h10⟩ := h
  exact ⟨(e _ hR).trans h1, (e _ (by omega)).trans h2, (e _ (by omega)).trans h3, (e _ (by omega)).trans h4, ⟨(e _ (by omega)).trans h5, (e _ (by omega)).trans h6, (e _ (by omega)).trans h7⟩, (e _ (by omega)).trans h8, fun a ha => (e _ (by omega)).trans (h9 a ha), h10⟩
theorem trY.at1 {a : Nat} (f : atY a y y1) (h : yt y a = some (.inr 1)) : ∀ (k x : Nat) (l : List (Nat × Int32)), trY O y k x l → trY O y1 k x l := by
  intro k
  induction k with
  | zero => intro x l h; exact h
  | succ k ih =>
    intro x l hx
    obtain ⟨⟨b1, b2⟩, hx⟩ := hx
    have hne : ¬ x = a := by
      rintro rfl
      rcases hx with ⟨h1, -⟩ | ⟨h1, -⟩ | ⟨h1, -⟩ | ⟨h1, -⟩ <;> (rw [h1] at h; cases h)
    obtain ⟨e1, e2⟩ := f.2 x hne
    refine ⟨⟨b1, by rw [f.1.2.2.2.2.1]; exact b2⟩, ?_⟩
    rw [f.1.1, e1, e2]
    rcases hx with hx | hx | ⟨hx, q, l1, g1, g2, g3⟩ | ⟨hx, p, q, l1, l2, g1, g2, g3, g4, g5⟩
    · exact Or.inl hx
    · exact Or.inr (Or.inl hx)
    · exact Or.inr (Or.inr (Or.inl ⟨hx, q, l1, g1, ih _ _ g2, g3⟩))
    · exact Or.inr (Or.inr (Or.inr ⟨hx, p, q, l1, l2, g1, g2, ih _ _ g3, ih _ _ g4, g5⟩))
theorem kp_at {a : Nat} (f : atY a y y1) (ha : N0 ≤ a) : kpY N0 F 0 0 y y1 := by
  obtain ⟨⟨a1, a2, a3, a4, a5, a6⟩, a7⟩ := f
  refine ⟨⟨by omega, by omega, by omega⟩, fun q hq => ?_⟩
  obtain ⟨b1, b2⟩ := a7 q (by omega)
  exact ⟨by rw [a1], by rw [a2], by rw [a3], b2, by rw [a4], fun _ => b1⟩
/-- the formula is laid into the river -/
theorem CLr.heat (h : CLr G O r y ν bd le) {q : Nat} {l : List (Nat × Int32)} (ht : trY O y 64 q l) : CLr G O r (sR y r 5 (some q)) (vN ν, vV ν, vW ν, l) bd le := by
  obtain ⟨a, b, c, d, ee, l1, l2, bs, ls, -⟩ := h
  have f : atY r y (sR y r 5 (some q)) := atY.refl.sr
  have ls' : ∀ {x lab : Nat} {m : Int} {els : Nat → Nat}, lsY G O y x lab m els → lsY G O (sR y r 5 (some q)) x lab m els := by
    intro x lab m els hx
    obtain ⟨⟨u1, u2, u3, u4⟩, u5, p, v1, v2, v3, v4⟩ := hx
    have hne : ¬ x = r := by rintro rfl; rw [u1] at a; cases a.1
    exact ⟨⟨u1, u2, u3, u4⟩, u5, p, by rw [(f.2 x hne).2]; exact v1, v2, v3, v4⟩
  refine ⟨a, ?_, c, d, ee, ls' l1, ls' l2, bs, ls, Or.inr ⟨q, by rw [sR_get, if_pos ⟨rfl, rfl⟩], trY.at1 f a.1 _ _ _ ht⟩⟩
  simp only [sR_get]
  rw [if_neg (by omega), if_neg (by omega), if_neg (by omega), if_neg (by omega), if_neg (by omega), if_neg (by omega)]
  exact b
theorem L_heat (hT : txO T n) (hG : okW G) (h : LZ G T n N0 R A F r O y s τ ν bd le) (hL : vN ν 10 ≤ 1900) (h16 : vN ν 16 = if vN ν 10 = 0 then 0 else 1) (hw : isW τ W_heat) : LLn G T n N0 R A F r y s τ ν := by
  obtain ⟨H1, H2⟩ := hd_heat hT hG h hL h16 hw
  by_cases cz : vH ν = []
  · obtain ⟨y1, s1, k1, h1, k2, f1, eC, eM⟩ := H1 cz
    have hpe : tP τ < tE τ := h.1.2.2.2.2.2.1 (by have := hw.1; omega) (by have := hw.1; omega)
    have tb := h.1.2.2.1
    have hn := hT.1
    obtain ⟨tk1, tp1⟩ := tk_ok (T := T) (n := n) (p := tE τ) (by omega) (by omega)
    have t1 := h1.1.1.1.1
    have hC1 := h1.2.2.2.1
    have hlab := h1.2.1
    have hR1 := h1.1.1.1.2
    have hr1 := hC1.1.2
    have hN1 : N0 ≤ yn y1 := by have := hlab.2.2.2.2.2.2.2.2.2.1; omega
    -- labels: what is new bears 1
    have eO : ∀ q, q < yn y1 → (fun a => if a < yn y1 then O a else 1) q = O q := fun q hq => if_pos hq
    generalize hO' : (fun a => if a < yn y1 then O a else 1) = O' at eO
    have hOn : ∀ a, yn y1 ≤ a → O' a = 1 := fun a ha => by rw [← hO']; exact if_neg (by omega)
    have hlab' := hlab.rel eO hR1 hr1 hN1
    have hC1' := hC1.rel eO
    have hF57 : O' F = 57 := by rw [hlab'.2.2.2.2.2.2.1 F hlab'.2.2.2.2.2.2.2.1, if_pos rfl]
    -- the reader counts anew
    have hCF0 : CF G O' T n R A F r y1 (tk T n (tE τ)) (vN ν 13) (yf y1 R 10).toInt (yf y1 R 9).toInt := ⟨h1.1, ⟨hC1.1.1, by omega, hC1.2.2.2.1 13 (by omega) (by omega)⟩, ⟨iI_of _, iI_of _⟩, h1.2.2.1, hlab.2.2.2.2.2.2.2.2.2.2.2, hlab'.1, hlab'.2.1, hF57, by have := hlab.2.2.2.2.2.2.2.1; omega, by have := hlab.2.2.2.2.2.2.2.2.1; omega, hOn⟩
    obtain ⟨w1, hCF1, g1⟩ := hCF0.mine 0
    obtain ⟨w2, hCF2, g2⟩ := hCF1.deep 0
    have g12 : yF O' LF 0 0 y1 (sF (sF y1 R 10 (iI 0)) R 9 (iI 0)) := g1.t0 g2
    generalize hy2 : sF (sF y1 R 10 (iI 0)) R 9 (iI 0) = y2 at *
    -- the model too
    have fs : fr [24, 17, 19, 23, 22] [] s1 (mSi (mSi (mSi (mSi (mSi s1 24 (iI 1)) 17 (iI 0)) 19 (iI 0)) 23 (iI 0)) 22 (iI 0)) := ((((fr.refl.si rfl).si rfl).si rfl).si rfl).si rfl
    have hMF : MF T n (mSi (mSi (mSi (mSi (mSi s1 24 (iI 1)) 17 (iI 0)) 19 (iI 0)) 23 (iI 0)) 22 (iI 0)) (tk T n (tE τ)) (vN ν 13) 0 0 [] [] := ⟨⟨h1.2.2.2.2.1.1.fr fs rfl rfl, h1.2.2.2.2.1.2.1.fr fs rfl rfl rfl rfl rfl, tk1, h1.2.2.2.2.1.2.2.1⟩, ⟨h1.2.2.2.2.2.1.1.2.2.2.2.2.2.2.2.2.2.2.2, rfl, rfl⟩, ⟨rfl, trivial, fun c hc => absurd hc (by simp)⟩, rfl, fun k p hp => by simp at hp⟩
    have eM2 : fm_formula s = mU (mSi (mSi (mSi (mSi (mSi s1 24 (iI 1)) 17 (iI 0)) 19 (iI 0)) 23 (iI 0)) 22 (iI 0)) := by
      unfold fm_formula
      rw [k1, obs]
      rfl
    have e24 : (mSi (mSi (mSi (mSi (mSi s1 24 (iI 1)) 17 (iI 0)) 19 (iI 0)) 23 (iI 0)) 22 (iI 0)).1 24 = iI 1 := rfl
    generalize hs2 : mSi (mSi (mSi (mSi (mSi s1 24 (iI 1)) 17 (iI 0)) 19 (iI 0)) 23 (iI 0)) 22 (iI 0) = s2 at *
    have w13 : 0 ≤ vN ν 13 ∧ vN ν 13 ≤ 60 := h1.2.2.2.2.2.2.1.2.2.2.2.2.1
    have eC2 : fy_Reader_line G y R = ((fy_ei G 9).1 y2 R).bind fun p => Sum.elim (fun q => some ((.inl q : Nat ⊕ Unit), p.2)) (fun v => (wR 1 5 p.2 r (some v)).bind fun s155 => some ((.inr () : Nat ⊕ Unit), s155)) p.1 := by
      rw [eC, gR_ok t1 h1.1.1.2.1.2.2.2, obs, ck_ok t1, obs]
      unfold fy_Reader_formula
      rw [i0, w1, obs, w2, obs, ck_ok hCF2.1.1.1.1, obs]
      cases (fy_ei G 9).1 y2 R with
      | none => rfl
      | some p =>
        obtain ⟨p1, p2⟩ := p
        cases p1 with
        | inl q => rfl
        | inr q => rfl
    have fy1 : kpY N0 F 0 0 y y2 := (k2.trans (g12.kp hlab' hN1 rfl)).mono (by omega) (by omega)
    have fm1 : fr LK LJ s s2 := (f1.mono rfl rfl).trans (fs.mono rfl rfl)
    have hN2 : N0 ≤ yn y2 := by have := g12.nx; omega
    refine ⟨fm_formula s, eM, ?_⟩
    rw [eM2, eC2]
    rcases (J_ei (O := O') (R := R) (A := A) (F := F) (r := r) hT hG 9).1 y2 s2 (tk T n (tE τ)) (vN ν 13) 0 0 [] [] ⟨hCF2, hMF, w13, by omega, by omega, by simp, by simp⟩ (by omega) trivial with hbad | hok
    · left
      obtain ⟨y', s', k, p, b1, b2, b3, b4, b5, b6, b7⟩ := hbad
      refine ⟨y', s', k, p, ?_, b2, ⟨b3.1, b3.2.1, by omega, b3.2.2.2⟩, b4, b5, (fy1.trans (b6.kp hlab' hN2 rfl)).mono (by omega) (by omega), fm1.trans (b7.mono rfl rfl)⟩
      rw [b1, obs]
      rfl
    · right
      obtain ⟨y', s', a, τ', u', m', lo, l', P, q1, q2, q3, q4, q5, q6, ⟨q7, q8⟩, q9, q10, q11, q12, q13⟩ := hok
      simp only [List.append_nil] at q4 q8 q10
      have n20 : ¬ 20 ∈ P := fun z => (q7 20 z).1 rfl
      have hst : stpT τ' P := by
        have := tg_b (sgT τ')
        rcases q8 with z | z | z
        · exact Or.inl z
        · omega
        · exact Or.inr z.2
      obtain ⟨s3, b1, b2, b3, b4, b5, b6⟩ := B_end q4 hst n20 (by omega) (by omega)
      rw [q5, List.nil_append] at b5
      have hne := q6.ne
      have hlen : (l' : List (Nat × Int32)).length = lo.length + P.length := by
        have := congrArg List.length q5
        simp only [List.length_append, flS_len, List.length_nil] at this
        omega
      have f23 : fr FK0 FJ s2 s3 := q13.trans b6
      have f13 : fr ([24] ++ FK0) FJ s1 s3 := (fs.mono rfl rfl).trans (f23.mono rfl rfl)
      have fy2 : yF O' LF (tP τ' - tP (tk T n (tE τ))).toNat (20 * (tP τ' - tP (tk T n (tE τ))).toNat) y1 y' := (g12.trans q11).mono rfl (by omega) (by omega)
      have hC2 : CLr G O' r y' (upN (upN (vN ν) 10 (vN ν 10 + 1)) 13 u', vV ν, vW ν, vH ν) bd le := by
        refine hC1'.fr hlab' fy2 rfl (fun j j1 j2 => ?_) rfl rfl
        show _ = iI (upN (upN (vN ν) 10 (vN ν 10 + 1)) 13 u' j)
        by_cases zz : j = 13
        · subst zz; exact q3.2.1.2.2
        · rw [fy2.int (by omega) (by
            have e : lbF O' r j = 200 + j := by unfold lbF; rw [hlab'.2.1, if_pos rfl]
            rw [e]
            have : j = 6 ∨ j = 7 ∨ j = 8 ∨ j = 9 ∨ j = 10 ∨ j = 11 ∨ j = 12 ∨ j = 14 ∨ j = 15 := by omega
            rcases this with z | z | z | z | z | z | z | z | z <;> subst z <;> rfl)]
          have e2 : upN (upN (vN ν) 10 (vN ν 10 + 1)) 13 u' j = upN (vN ν) 10 (vN ν 10 + 1) j := if_neg zz
          rw [e2]
          exact hC1'.2.2.2.1 j j1 j2
      have hC3 := hC2.heat (q6.le (by omega : (m' - 0 + 7 - 0).toNat ≤ 64))
      have hwf := h1.2.2.2.2.2.2
      have hm := h1.2.2.2.2.2.1
      have fat : atY r y' (sR y' r 5 (some a)) := atY.refl.sr
      have hrR : ¬ R = r := hlab.2.2.2.2.2.2.2.2.2.2.2
      have hTok := q3.1.2.2
      refine ⟨O', sR y' r 5 (some a), s3, τ', (upN (upN (vN ν) 10 (vN ν 10 + 1)) 13 u', vV ν, vW ν, l'), bd, le, ?_, q2.trans b1, ⟨⟨q3.1.1.at fat hrR, q3.1.2.1.at fat hrR, hTok⟩, hlab', ?_, hC3, ⟨MX.fr (K := [24] ++ FK0) (J := FJ) h1.2.2.2.2.1.1 f13 rfl rfl, b2, b3, ?_⟩, ?_, ?_⟩, rfl, ?_, by omega, fm1.trans (f23.mono rfl rfl)⟩
      · rw [q1, obs]
        simp only [Sum.elim_inr]
        rw [wR_ok q3.2.1.1, obs]
      · exact q3.2.2.2.1
      · rw [f13.s 3 rfl]; exact h1.2.2.2.2.1.2.2.2
      · obtain ⟨⟨a1, a2, a3, a4, a5, a6, a7, a8, a9, a10, a11, a12, a13⟩, b, ⟨c1, c2, c3, c4⟩, ⟨d1, d2⟩, e⟩ := hm
        refine ⟨⟨?_, ?_, ?_, ?_, ?_, ?_, ?_, ?_, ?_, ?_, ?_, ?_, b4⟩, fun z z1 z2 => ?_, ⟨f13.ar c1 rfl, f13.ar c2 rfl, f13.ar c3 rfl, f13.ar c4 rfl⟩, ⟨fun k hk => ?_, fun k hk => ?_⟩, fun _ => b5.2⟩
        · rw [f13.s 38 rfl]; exact a1
        · rw [f13.s 39 rfl]; exact a2
        · rw [f13.s 40 rfl]; exact a3
        · rw [f13.s 41 rfl]; exact a4
        · rw [f13.s 42 rfl]; exact a5
        · rw [f13.s 43 rfl]; exact a6
        · rw [f13.s 44 rfl]; exact a7
        · rw [f13.s 45 rfl]; exact a8
        · rw [f13.s 51 rfl]; exact a9
        · rw [f13.s 52 rfl]; exact a10
        · rw [f13.s 53 rfl]; exact a11
        · rw [f23.s 24 rfl, e24]
          show iI 1 = iI (if l' = [] then 0 else 1)
          rw [if_neg hne]
        · rw [f13.a 10 rfl, f13.a 11 rfl]; exact b z z1 z2
        · rw [f13.n rfl]; exact d1 k hk
        · rw [f13.n rfl]; exact d2 k hk
      · obtain ⟨⟨x8, x9, x10, x11, x12, x13, x6⟩, xz, xb, xl, xh, x16, x17⟩ := hwf
        refine ⟨⟨x8, x9, x10, x11, x12, ⟨q9.2.2.1, q9.2.2.2.1⟩, x6⟩, xz, xb, xl, Or.inr ⟨?_, by show l'.length ≤ 320; omega⟩, x16, x17⟩
        have := trY.ok _ _ _ q6 0 [] (by omega)
        rw [List.append_nil] at this
        exact this.trans (by decide)
      · exact ((fy1.trans (q11.kp hlab' hN2 rfl)).trans (kp_at fat hlab.2.2.2.2.2.2.2.2.2.2.1)).mono (by omega) (by omega)
  · obtain ⟨e1, e2⟩ := H2 cz
    exact L_no hT h e1 e2
end N6

/-! LAYER 3, the formula: both sides at once; a unit -/
set_option maxRecDepth 100000
def stq (lam : Int) (τ : Tk) (S : List Int) : Prop := sgT τ = 0 ∨ tg (sgT τ) < lam ∨ (lam ≤ 4 ∧ tg (sgT τ) = 4 ∧ hasRel S = true)
def HJ (G : ai_G) (O : Nat → Nat) (T : Int → Int) (n : Int) (R A F r : Nat) (y : yS) (s : mS) (τ : Tk) (u m d : Int) (S : List Int) (l : List (Nat × Int32)) : Prop := CF G O T n R A F r y τ u m d ∧ MF T n s τ u m d S l ∧ (0 ≤ u ∧ u ≤ 60) ∧ (0 ≤ m ∧ m ≤ 30) ∧ (0 ≤ d ∧ d ≤ 7) ∧ ((S.length : Int) ≤ m + d ∧ (l.length : Int) + S.length ≤ 9 * m + d)
/-- both find the same fault -/
def JBad {α : Type} (O : Nat → Nat) (F : Nat) (y : yS) (s : mS) (p0 : Int) (fz : Option ((Nat ⊕ α) × yS)) (mz : Option mS) : Prop := ∃ y' s' k p, fz = some (.inl F, y') ∧ mz = some s' ∧ (1 ≤ k ∧ k ≤ 4 ∧ p0 ≤ p ∧ p ≤ 1600) ∧ (yf y' F 0 = iI k ∧ yf y' F 1 = iI p) ∧ (s'.1 2 = iI k ∧ s'.1 3 = iI p) ∧ yF O LF (p - p0).toNat (20 * (p - p0).toNat) y y' ∧ fr FK FJ s s'
/-- both have read a part of the formula -/
def JOk (G : ai_G) (O : Nat → Nat) (T : Int → Int) (n : Int) (R A F r : Nat) (lam : Int) (y : yS) (s : mS) (τ : Tk) (m d : Int) (S : List Int) (l : List (Nat × Int32)) (fz : Option ((Nat ⊕ Nat) × yS)) (mz : Option mS) : Prop := ∃ y' s' a τ' u' m' lo l' P, fz = some (.inr a, y') ∧ mz = mB s' ∧ CF G O T n R A F r y' τ' u' m' d ∧ MF T n s' τ' u' m' (d + ntS P) (P ++ S) lo ∧ lo ++ flS P = l ++ l' ∧ trY O y' (m' - m + 7 - d).toNat a l' ∧ ((∀ c ∈ P, ¬ c = 20 ∧ lam ≤ tg c) ∧ stq lam τ' (P ++ S)) ∧ (m < m' ∧ m' ≤ 30 ∧ 0 ≤ u' ∧ u' ≤ 60 ∧ d + ntS P ≤ 7) ∧ (((P ++ S).length : Int) + 1 ≤ m' + (d + ntS P) ∧ (lo.length : Int) + (P ++ S).length + 1 ≤ 9 * m') ∧ yF O LF (tP τ' - tP τ).toNat (20 * (tP τ' - tP τ).toNat) y y' ∧ tP τ < tP τ' ∧ fr FK0 FJ s s'
def JN (G : ai_G) (O : Nat → Nat) (T : Int → Int) (n : Int) (R A F r : Nat) (dm : Int) (pre : List Int → Tk → Prop) (lam : Int) (X : yS → Nat → Option ((Nat ⊕ Nat) × yS)) : Prop := ∀ y s τ u m d S l, HJ G O T n R A F r y s τ u m d S l → dm ≤ d → pre S τ → JBad O F y s (tP τ) (X y R) (mU s) ∨ JOk G O T n R A F r lam y s τ m d S l (X y R) (mU s)
def preN (S : List Int) (τ : Tk) : Prop := ¬ (isW τ W_not ∧ mayN S)
section M4
variable {G : ai_G} {O : Nat → Nat} {T : Int → Int} {n : Int} {R A F r : Nat} {y y1 : yS} {s s1 : mS} {τ : Tk} {u m d p0 p1 : Int} {S : List Int} {l : List (Nat × Int32)}
theorem JBad.up {α β : Type} {fz : Option ((Nat ⊕ α) × yS)} {fz' : Option ((Nat ⊕ β) × yS)} {mz mz' : Option mS} {c e : Nat} (h : JBad O F y1 s1 p1 fz mz) (hf : ∀ y', fz = some (.inl F, y') → fz' = some (.inl F, y')) (hm : mz' = mz) (f : yF O LF c e y y1) (g : fr FK0 FJ s s1) (hp : p0 ≤ p1) (hc : c ≤ (p1 - p0).toNat) (he : e ≤ 20 * (p1 - p0).toNat) : JBad O F y s p0 fz' mz' := by
  obtain ⟨y', s', k, p, h1, h2, h3, h4, h5, h6, h7⟩ := h
  exact ⟨y', s', k, p, hf y' h1, hm.trans h2, ⟨h3.1, h3.2.1, by omega, h3.2.2.2⟩, h4, h5, (f.trans h6).mono rfl (by omega) (by omega), (g.mono rfl rfl).trans h7⟩
theorem JBad.here {α : Type} {fz : Option ((Nat ⊕ α) × yS)} {mz : Option mS} {s' : mS} {c e : Nat} {k : Int} (h : CF G O T n R A F r y1 τ u m d) (hn : n ≤ 1600) (hf : fz = some (.inl F, wrY y1 F k (tP τ))) (hm : mz = some s') (h2 : s'.1 2 = iI k) (h3 : s'.1 3 = iI (tP τ)) (hk : 1 ≤ k ∧ k ≤ 4) (f : yF O LF c e y y1) (g : fr FK FJ s s') (hp : p0 ≤ tP τ) (hc : c ≤ (tP τ - p0).toNat) (he : e ≤ 20 * (tP τ - p0).toNat) : JBad O F y s p0 fz mz := by
  obtain ⟨k1, k2, k3⟩ := h.wrong k (tP τ)
  have ht := h.1.2.2.1
  exact ⟨_, s', k, tP τ, hf, hm, ⟨hk.1, hk.2, hp, by omega⟩, ⟨k2, k3⟩, ⟨h2, h3⟩, (f.trans k1).mono rfl (by omega) (by omega), g⟩
/-- a leaf is made -/
theorem c_leaf (h : CF G O T n R A F r y τ u m d) {kc : Nat} {v : Int32} : CF G O T n R A F r (sF (nO y kc) (yn y) 0 v) τ u m d ∧ yF O LF 1 (ai_nf kc) y (sF (nO y kc) (yn y) 0 v) ∧ yt (sF (nO y kc) (yn y) 0 v) (yn y) = some (.inr kc) ∧ yf (sF (nO y kc) (yn y) 0 v) (yn y) 0 = v ∧ O (yn y) = 1 ∧ yn y < yn (sF (nO y kc) (yn y) 0 v) := by
  have hR := h.1.1.1.2
  have hr := h.2.1.2.1
  have f0 := nO_F (O := O) (y := y) (k := kc)
  refine ⟨(h.fr0 f0).at (atY.refl.sf) (by omega) (by omega), (f0.m0 rfl).sfN (Nat.le_refl _), ?_, ?_, h.2.2.2.2.2.2.2.2.2.2 _ (Nat.le_refl _), ?_⟩
  · show yt (nO y kc) (yn y) = _
    rw [nO_t, if_pos rfl]
  · rw [sF_get, if_pos ⟨rfl, rfl⟩]
  · show yn y < yn y + 1
    omega
theorem J_unit (hT : txO T n) (hG : okW G) {dm : Int} {rE rO : yS → Nat → Option ((Nat ⊕ Nat) × yS)} (hE : JN G O T n R A F r (dm + 1) (fun S _ => lowT 1 S) 1 rE) : JN G O T n R A F r dm preN 7 (fy_Reader_unit G rE rO) := by
  intro y s τ u m d S l hJ hdm hpre
  obtain ⟨hC, hM, hu, hm, hd, hl1, hl2⟩ := hJ
  have hn := hT.1
  have hB := hC.1.1
  have hτ := hC.1.2.1
  have ht := hC.1.2.2
  have hy := hC.2.2.2.1
  have t0 := hB.1.1
  have tr := hC.2.1.1
  have sb := so_b ht
  have kb := kdT_b (tS τ)
  have tb := ht.1
  have es := c_signHere (G := G) hT hB hτ ht (c := 40) (by decide)
  obtain ⟨q54, c54, r54⟩ := hG.2.2.2.2
  have ei := c_which hT hG hy hB hτ ht r54 named_lt (by decide)
  have hi : -1 ≤ ixW τ namedW 0 ∧ ixW τ namedW 0 < 6 ∧ (0 ≤ ixW τ namedW 0 → tS τ = 1) := by
    rcases ixW_b τ namedW 0 (Int.le_refl 0) with ⟨q1, q2⟩ | ⟨q1, q2, q3⟩
    · exact ⟨by omega, by omega, fun z => by omega⟩
    · have : namedW.length = 6 := rfl
      exact ⟨by omega, by omega, fun _ => q3⟩
  have eR : gR 8 3 y R = some r := gR_ok t0 hB.2.1.2.2.2
  have eu : gI 1 13 y r = some (iI u) := by rw [gI_ok tr, hC.2.1.2.2]
  have em : gI 8 10 y R = some (iI m) := by rw [gI_ok t0, hC.2.2.1.1]
  have ew := c_wrong (G := G) hB hτ
  have ck3 := ck_wr hB (fkT τ) (tP τ)
  have fb := fkT_b τ
  have e6 : gI 8 6 y R = some (iI (kdT (tS τ))) := by rw [gI_ok t0, hτ.2.2.1]
  -- the count
  obtain ⟨w1, hC1, f1⟩ := hC.unit (u + 1)
  obtain ⟨w2, hC2, f2⟩ := hC1.mine (m + 1)
  have f12 : yF O LF 0 0 y (sF (sF y r 13 (iI (u + 1))) R 10 (iI (m + 1))) := f1.t0 f2
  have em1 : gI 8 10 (sF y r 13 (iI (u + 1))) R = some (iI m) := by rw [gI_ok hC1.1.1.1.1, hC1.2.2.1.1]
  have hfull : ∀ (v1 v2 : Int32), (u = 60 ∨ m = 30) → fy_Reader_unit_j31 G rE rO y R v1 v2 = some (.inl F, wrY y F (fkT τ) (tP τ)) := by
    intro v1 v2 z
    simp (disch := omega) only [fy_Reader_unit_j31, eR, eu, em, iI_lit, iI_add, iI_sub, iI_mul, iI_neg, obs, if_true, if_false, Int.reduceEq, Int.reduceLE, Int.reduceLT, Int.reduceAdd, Int.reduceSub, Int.reduceMul, Int.reduceNeg, Nat.reduceEqDiff, iI_le, iI_lt, iI_eq, ck_ok t0, ew, ck3]
    by_cases c : u = 60
    · rw [if_pos c]
    · rw [if_neg c, if_pos (by omega)]
  by_cases c40 : tS τ = 40
  · -- a bracket
    rw [if_pos c40] at es
    have fk2 : fkT τ = 2 := by unfold fkT; rw [if_neg (by omega)]
    have eU : fy_Reader_unit G rE rO y R = fy_Reader_unit_j31 G rE rO y R 1 (iI (ixW τ namedW 0)) := by
      unfold fy_Reader_unit
      rw [ck_ok t0, obs, show (40 : Int32) = iI 40 from rfl, es, obs, c54, obs, obs, ei, obs, if_neg (by decide)]
    obtain ⟨U1, U2⟩ := U_br hT hM hu hm hd (by omega) c40
    rw [eU]
    by_cases cf : u = 60 ∨ m = 30
    · left
      obtain ⟨s', j1, j2, j3, j4⟩ := U2 (fun z => z.1 cf)
      exact JBad.here (k := 2) hC hn.2 (by rw [hfull _ _ cf, fk2]) j1 j2 j3 (by omega) yF.refl j4 (Int.le_refl _) (by omega) (by omega)
    · -- open
      have ed : gI 8 9 (sF (sF y r 13 (iI (u + 1))) R 10 (iI (m + 1))) R = some (iI d) := by rw [gI_ok hC2.1.1.1.1, hC2.2.2.1.2]
      generalize hy2 : sF (sF y r 13 (iI (u + 1))) R 10 (iI (m + 1)) = y2 at *
      have t2 := hC2.1.1.1.1
      have e31 : fy_Reader_unit_j31 G rE rO y R 1 (iI (ixW τ namedW 0)) = ((fy_Reader_open G y2 R).bind fun p85 => Sum.elim (fun q85 => some (.inl q85, p85.2)) (fun _ => (ck 8 p85.2 R).bind fun _ => (rE p85.2 R).bind fun p89 => Sum.elim (fun q89 => some (.inl q89, p89.2)) (fun v89 => (gI 8 9 p89.2 R).bind fun x95 => (wI 8 9 p89.2 R (x95 - 1)).bind fun s100 => (ck 8 s100 R).bind fun _ => (fy_Reader_isSignHere G s100 R 41).bind fun p107 => (ck 8 s100 R).bind fun _ => (fy_Reader_must G s100 R p107).bind fun p110 => Sum.elim (fun q110 => some (.inl q110, p110.2)) (fun _ => some (.inr v89, p110.2)) p110.1) p89.1) p85.1) := by
        unfold fy_Reader_unit_j31
        rw [eR, obs, eu, obs, if_neg (by rw [show (60 : Int32) = iI 60 from rfl, iI_eq (by omega) (by omega) (by omega) (by omega)]; omega), em, obs, if_neg (by rw [show (30 : Int32) = iI 30 from rfl, iI_eq (by omega) (by omega) (by omega) (by omega)]; omega), obs, eu, obs, i1, iI_add, w1, obs, em1, obs, iI_add, w2, obs, if_neg (by decide), ck_ok t2, obs]
      rw [e31]
      by_cases cd : d ≤ 6
      · obtain ⟨s1, j1, j2, j3⟩ := U1 ⟨cf, cd⟩
        obtain ⟨w3, hC3, f3⟩ := hC2.deep (d + 1)
        obtain ⟨y4, w4, hC4, f4, -⟩ := hC3.adv hT (by omega)
        have f14 : yF O LF 0 0 y y4 := (f12.t0 f3).t0 f4
        have eo : fy_Reader_open G y2 R = some (.inr (), y4) := by
          unfold fy_Reader_open
          rw [ed, obs, if_neg (by rw [show (7 : Int32) = iI 7 from rfl, iI_eq (by omega) (by omega) (by omega) (by omega)]; omega), obs, i1, iI_add, w3, obs, ck_ok hC3.1.1.1.1, obs, w4, obs]
        obtain ⟨ht4, hp4⟩ := tk_ok (T := T) (n := n) (p := tE τ) (by omega) (by omega)
        have hpe : tP τ < tE τ := ht.2.2.2.1 (by omega) (by omega)
        rw [eo, obs]
        simp only [Sum.elim_inr]
        rw [ck_ok hC4.1.1.1.1, obs, j1]
        rcases hE y4 s1 (tk T n (tE τ)) (u + 1) (m + 1) (d + 1) (20 :: S) l ⟨hC4, j2, by omega, by omega, by omega, by simp only [List.length_cons]; omega, by simp only [List.length_cons]; omega⟩ (by omega) (Or.inl rfl) with hbad | hok
        · left
          refine hbad.up (fun y' e => ?_) rfl f14 j3 (by omega) (by omega) (by omega)
          rw [e, obs]
          rfl
        · obtain ⟨y', s', a, τ', u', m', lo, l', P, k1, k2, k3, k4, k5, k6, ⟨k7, k8⟩, k9, k10, k11, k12, k13⟩ := hok
          obtain ⟨w5, hC5, f5⟩ := k3.deep d
          have sb' := so_b k3.1.2.2
          have ed' : gI 8 9 y' R = some (iI (d + 1)) := by rw [gI_ok k3.1.1.1.1, k3.2.2.1.2]
          have es' := c_signHere (G := G) hT hC5.1.1 hC5.1.2.1 hC5.1.2.2 (c := 41) (by decide)
          have erest : (rE y4 R).bind (fun p89 => Sum.elim (fun q89 => some ((.inl q89 : Nat ⊕ Nat), p89.2)) (fun v89 => (gI 8 9 p89.2 R).bind fun x95 => (wI 8 9 p89.2 R (x95 - 1)).bind fun s100 => (ck 8 s100 R).bind fun _ => (fy_Reader_isSignHere G s100 R 41).bind fun p107 => (ck 8 s100 R).bind fun _ => (fy_Reader_must G s100 R p107).bind fun p110 => Sum.elim (fun q110 => some ((.inl q110 : Nat ⊕ Nat), p110.2)) (fun _ => some ((.inr v89 : Nat ⊕ Nat), p110.2)) p110.1) p89.1) = (fy_Reader_must G (sF y' R 9 (iI d)) R (if tS τ' = 41 then 1 else 0)).bind fun p110 => Sum.elim (fun q110 => some ((.inl q110 : Nat ⊕ Nat), p110.2)) (fun _ => some ((.inr a : Nat ⊕ Nat), p110.2)) p110.1 := by
            rw [k1, obs]
            simp only [Sum.elim_inr]
            rw [ed', obs, i1, iI_sub, show d + 1 - 1 = d by omega, w5, obs, ck_ok hC5.1.1.1.1, obs, show (41 : Int32) = iI 41 from rfl, es', obs, obs]
            rfl
          have fa : yF O LF (tP τ' - tP (tk T n (tE τ))).toNat (20 * (tP τ' - tP (tk T n (tE τ))).toNat) y (sF y' R 9 (iI d)) := ((f14.trans k11).trans f5).mono rfl (by omega) (by omega)
          have hτ' := k3.1.2.2.1
          have hstp : stpT τ' (P ++ 20 :: S) := by
            have := tg_b (sgT τ')
            rcases k8 with z | z | z
            · exact Or.inl z
            · omega
            · exact Or.inr ⟨z.2.1, z.2.2⟩
          rw [erest]
          by_cases c41 : tS τ' = 41
          · right
            obtain ⟨y6, w6, hC6, f6, -⟩ := hC5.adv hT (by omega)
            have em6 : fy_Reader_must G (sF y' R 9 (iI d)) R (if tS τ' = 41 then 1 else 0) = some (.inr (), y6) := by
              rw [if_pos c41]
              unfold fy_Reader_must
              rw [if_neg (by decide), ck_ok hC5.1.1.1.1, obs, w6, obs]
            obtain ⟨s6, b1, b2, b3⟩ := B_close hT k4 c41 (fun c hc => (k7 c hc).1) (by omega) (by simp only [List.length_append, List.length_cons] at k10; omega)
            obtain ⟨ht6, hp6⟩ := tk_ok (T := T) (n := n) (p := tE τ') (by omega) (by omega)
            have hpe' : tP τ' < tE τ' := k3.1.2.2.2.2.2.1 (by omega) (by omega)
            have nb := ntS_b P
            refine ⟨y6, s6, a, tk T n (tE τ'), u', m', lo ++ flS P, l', [], ?_, k2.trans b1, hC6, ?_, ?_, ?_, ⟨fun c hc => absurd hc (by simp), Or.inr (Or.inl (by have := tg_b (sgT (tk T n (tE τ'))); omega))⟩, ⟨by omega, k9.2.1, k9.2.2.1, k9.2.2.2.1, by simp only [ntS]; omega⟩, ?_, ?_, ?_, ?_⟩
            · rw [em6, obs]
              rfl
            · have e0 : d + 1 + ntS P - ntS P - 1 = d + ntS [] := by simp only [ntS]; omega
              rw [e0] at b2
              exact b2
            · rw [k5]; simp [flS]
            · exact trY.fr f6 rfl rfl _ _ _ (trY.fr f5 rfl rfl _ _ _ (k6.le (by omega)))
            · simp only [List.length_append, List.length_cons, List.nil_append] at k10 ⊢
              have : (flS P).length = P.length := by simp [flS]
              rw [this]
              simp only [ntS]
              omega
            · exact (fa.trans f6).mono rfl (by omega) (by omega)
            · omega
            · exact (j3.trans k13).trans b3
          · left
            have hbrk := B_brk k4 hstp c41 (by simp) (by omega)
            have em6 : fy_Reader_must G (sF y' R 9 (iI d)) R (if tS τ' = 41 then 1 else 0) = some (.inl F, wrY (sF y' R 9 (iI d)) F (fkT τ') (tP τ')) := by
              rw [if_neg c41]
              exact c_must0 hC5.1.1 hC5.1.2.1
            have fb' := fkT_b τ'
            refine JBad.here (k := fkT τ') hC5 hn.2 (by rw [em6, obs]; rfl) (k2.trans hbrk) rfl rfl (by omega) fa (((j3.trans k13).mono rfl rfl).trans ((fr.refl.si rfl).si rfl)) (by omega) (by omega) (by omega)
      · left
        obtain ⟨s', j1, j2, j3, j4⟩ := U2 (fun z => cd z.2)
        have ew2 := c_wrong (G := G) hC2.1.1 hC2.1.2.1
        have ck32 := ck_wr hC2.1.1 (fkT τ) (tP τ)
        have eo : fy_Reader_open G y2 R = some (.inl F, wrY y2 F (fkT τ) (tP τ)) := by
          unfold fy_Reader_open
          rw [ed, obs, show d = 7 by omega, if_pos (show iI 7 = (7 : Int32) from rfl), ck_ok t2, obs, ew2, obs, ck32, obs]
        refine JBad.here (k := 2) hC2 hn.2 (by rw [eo, obs, fk2]; rfl) j1 j2 j3 (by omega) f12 j4 (Int.le_refl _) (by omega) (by omega)
  · -- a leaf
    rw [if_neg c40] at es
    obtain ⟨U1, U2⟩ := U_leaf hT hM hu hm (by omega) (by omega) hpre c40
    have eU : fy_Reader_unit G rE rO y R = if tS τ = 2 ∨ 0 ≤ ixW τ namedW 0 then fy_Reader_unit_j31 G rE rO y R 0 (iI (ixW τ namedW 0)) else some (.inl F, wrY y F (fkT τ) (tP τ)) := by
      unfold fy_Reader_unit
      rw [ck_ok t0, obs, show (40 : Int32) = iI 40 from rfl, es, obs, c54, obs, obs, ei, obs, if_pos rfl]
      simp (disch := omega) only [iI_lit, iI_add, iI_sub, iI_mul, iI_neg, obs, if_true, if_false, Int.reduceEq, Int.reduceLE, Int.reduceLT, Int.reduceAdd, Int.reduceSub, Int.reduceMul, Int.reduceNeg, Nat.reduceEqDiff, iI_le, iI_lt, iI_eq, e6, kdT_2, ck_ok t0, ew, ck3]
      by_cases z1 : 0 ≤ ixW τ namedW 0
      · rw [if_pos z1, if_pos (Or.inr z1)]
      · rw [if_neg z1]
        by_cases z2 : tS τ = 2
        · rw [if_pos z2, if_pos (Or.inl z2)]
        · rw [if_neg z2, if_neg (by omega)]
    rw [eU]
    by_cases z : (tS τ = 2 ∨ 0 ≤ ixW τ namedW 0) ∧ ¬ (u = 60 ∨ m = 30)
    · right
      obtain ⟨z1, z2⟩ := z
      rw [if_pos z1]
      obtain ⟨s1, j1, j2, j3⟩ := U1 ⟨z1, z2⟩
      have h3 : ¬ tS τ = 3 ∧ ¬ tS τ = 0 := by
        rcases z1 with q | q
        · omega
        · have := hi.2.2 q; omega
      have hpe : tP τ < tE τ := ht.2.2.2.1 h3.2 h3.1
      obtain ⟨ht4, hp4⟩ := tk_ok (T := T) (n := n) (p := tE τ) (by omega) (by omega)
      have e7 : tS τ = 2 → ∀ z : yS, CF G O T n R A F r z τ (u + 1) (m + 1) d → gI 8 7 z R = some (iI (tN τ)) := fun q z hz => by rw [gI_ok hz.1.1.1.1, hz.1.2.1.2.2.2.1 q]
      generalize hy2 : sF (sF y r 13 (iI (u + 1))) R 10 (iI (m + 1)) = y2 at *
      have main : ∃ y' l', fy_Reader_unit_j31 G rE rO y R 0 (iI (ixW τ namedW 0)) = some (.inr (yn y2), y') ∧ CF G O T n R A F r y' (tk T n (tE τ)) (u + 1) (m + 1) d ∧ yF O LF 1 1 y y' ∧ trY O y' 1 (yn y2) l' ∧ l' = [lfS τ] := by
        have e31 : fy_Reader_unit_j31 G rE rO y R 0 (iI (ixW τ namedW 0)) = if (0 : Int32) ≤ iI (ixW τ namedW 0) then ((mk 13 y2).bind fun s133 => (fy_Named_init G s133.2 s133.1 (iI (ixW τ namedW 0))).bind fun p138 => (ck 8 p138 R).bind fun _ => (fy_Reader_next G p138 R).bind fun p143 => some (.inr s133.1, p143)) else ((mk 12 y2).bind fun s119 => (gI 8 7 s119.2 R).bind fun x124 => (fy_Numeral_init G s119.2 s119.1 x124).bind fun p127 => (ck 8 p127 R).bind fun _ => (fy_Reader_next G p127 R).bind fun p143 => some (.inr s119.1, p143)) := by
          unfold fy_Reader_unit_j31
          rw [eR, obs, eu, obs, if_neg (by rw [show (60 : Int32) = iI 60 from rfl, iI_eq (by omega) (by omega) (by omega) (by omega)]; omega), em, obs, if_neg (by rw [show (30 : Int32) = iI 30 from rfl, iI_eq (by omega) (by omega) (by omega) (by omega)]; omega), obs, eu, obs, show (1 : Int32) = iI 1 from rfl, iI_add, w1, obs, em1, obs, iI_add, w2, obs, if_pos rfl]
        rw [e31, i0]
        by_cases ca : 0 ≤ ixW τ namedW 0
        · rw [if_pos (by rw [iI_le (by omega) (by omega) (by omega) (by omega)]; exact ca)]
          obtain ⟨b1, b2, b3, b4, b5, b6⟩ := c_leaf hC2 (kc := 13) (v := iI (ixW τ namedW 0))
          obtain ⟨y4, w4, hC4, f4, r4⟩ := b1.adv hT h3.1
          have hRn : ¬ yn y2 = R := by have := hC2.1.1.1.2; omega
          refine ⟨y4, [(1, iI (ixW τ namedW 0))], ?_, hC4, ((f12.trans b2).trans f4).mono rfl (by decide) (by decide), ⟨⟨b5, by rw [r4.1.2.2.2.2.1]; exact b6⟩, ?_⟩, by unfold lfS; rw [if_pos ca]⟩
          · unfold mk
            rw [obs]
            simp only
            unfold fy_Named_init fy_Part_init
            rw [obs, wI_ok (show yt (nO y2 13) (yn y2) = some (.inr 13) by rw [nO_t, if_pos rfl]), obs, obs, ck_ok b1.1.1.1.1, obs, w4, obs]
          · right; left
            rw [r4.1.1, (r4.2.1 _ hRn).1]
            exact ⟨b3, ⟨(ixW τ namedW 0).toNat, by omega, by rw [b4]; congr 1; omega⟩, by rw [b4]⟩
        · have c2 : tS τ = 2 := by omega
          rw [if_neg (by rw [iI_le (by omega) (by omega) (by omega) (by omega)]; exact ca)]
          obtain ⟨b1, b2, b3, b4, b5, b6⟩ := c_leaf hC2 (kc := 12) (v := iI (tN τ))
          obtain ⟨y4, w4, hC4, f4, r4⟩ := b1.adv hT h3.1
          have hRn : ¬ yn y2 = R := by have := hC2.1.1.1.2; omega
          have e7' := e7 c2 (nO y2 12) (hC2.fr0 nO_F)
          refine ⟨y4, [(0, iI (tN τ))], ?_, hC4, ((f12.trans b2).trans f4).mono rfl (by decide) (by decide), ⟨⟨b5, by rw [r4.1.2.2.2.2.1]; exact b6⟩, ?_⟩, by unfold lfS; rw [if_neg ca]⟩
          · unfold mk
            rw [obs]
            simp only
            rw [e7', obs]
            unfold fy_Numeral_init fy_Part_init
            rw [obs, wI_ok (show yt (nO y2 12) (yn y2) = some (.inr 12) by rw [nO_t, if_pos rfl]), obs, obs, ck_ok b1.1.1.1.1, obs, w4, obs]
          · left
            rw [r4.1.1, (r4.2.1 _ hRn).1]
            exact ⟨b3, by rw [b4]⟩
      obtain ⟨y', l', m1, m2, m3, m4, rfl⟩ := main
      refine ⟨y', s1, yn y2, tk T n (tE τ), u + 1, m + 1, l ++ [lfS τ], [lfS τ], [], m1, j1, m2, ?_, by simp [flS], m4.le (by omega), ⟨fun c hc => absurd hc (by simp), Or.inr (Or.inl (by have := tg_b (sgT (tk T n (tE τ))); omega))⟩, ⟨by omega, by omega, by omega, by omega, by simp only [ntS]; omega⟩, ?_, m3.mono rfl (by omega) (by omega), by omega, j3⟩
      · have e0 : d = d + ntS [] := by simp only [ntS]; omega
        rw [← e0]
        exact j2
      · simp only [List.nil_append, List.length_append, List.length_cons, List.length_nil, ntS]
        omega
    · left
      obtain ⟨s', j1, j2, j3, j4⟩ := U2 z
      refine JBad.here (k := fkT τ) hC hn.2 ?_ j1 j2 j3 (by omega) yF.refl j4 (Int.le_refl _) (by omega) (by omega)
      by_cases z1 : tS τ = 2 ∨ 0 ≤ ixW τ namedW 0
      · rw [if_pos z1]
        exact hfull _ _ (Classical.byContradiction fun q => z ⟨z1, q⟩)
      · rw [if_neg z1]
end M4

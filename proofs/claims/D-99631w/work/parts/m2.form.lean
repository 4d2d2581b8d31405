/-! LAYER 3, the formula: the model's steps at a sign -/
set_option maxRecDepth 100000
theorem lp_none {A B : Type} {b : A → Option (A ⊕ B)} {s : A} (e : b s = none) : lp b s = none := by
  cases h : lp b s with
  | none => rfl
  | some r =>
    obtain ⟨n, hn⟩ := lp_some h
    cases n with
    | zero => cases hn
    | succ n => simp only [lpN, e] at hn; cases hn
theorem lp_bnd {A B C : Type} {b : A → Option (A ⊕ B)} {s : A} {x : Option C} {f : C → A} (e : b s = x.bind fun p => some (.inl (f p))) : lp b s = x.bind fun p => lp b (f p) := by
  cases x with
  | none => exact lp_none e
  | some p => exact lp_back e
theorem MT.fr {s s1 : mS} {τ : Tk} {K J : List Nat} (ht : MT s τ) (f : fr K J s s1) (h4 : K.contains 4 = false) (h6 : K.contains 6 = false) (h7 : K.contains 7 = false) (h8 : K.contains 8 = false) (hw : K.contains 100 = false) : MT s1 τ := ⟨by rw [f.s 6 h6]; exact ht.1, by rw [f.s 7 h7]; exact ht.2.1, fun q => by rw [f.s 4 h4]; exact ht.2.2.1 q, fun q => by rw [f.s 8 h8]; exact ht.2.2.2.1 q, fun q => by rw [f.w hw]; exact ht.2.2.2.2 q⟩
section M2f
variable {T : Int → Int} {n : Int} {s : mS} {τ : Tk} {u m d : Int} {S P : List Int} {l : List (Nat × Int32)}
theorem B_op (hT : txO T n) (h : MF T n s τ u m d (P ++ S) l) (hc : ¬ sgT τ = 0) (hr : tg (sgT τ) = 4 → hasRel (P ++ S) = false) (hP : ∀ c ∈ P, ¬ c = 20 ∧ tg (sgT τ) ≤ tg c) (hS : lowT (tg (sgT τ)) S) (hl1 : (P ++ S).length < 159) (hl2 : l.length + P.length ≤ 320) : ∃ s', mB s = mU s' ∧ MF T n s' (tk T n (tE τ)) u m (d - ntS P) (sgT τ :: S) (l ++ flS P) ∧ fr FK0 FJ s s' := by
  obtain ⟨⟨hx, ht, hk, h2⟩, ⟨h20, h22, h23⟩, hO⟩ := h
  have hb := sgT_b (τ := τ)
  have tb := tg_b (sgT τ)
  have sb := so_b hk
  obtain ⟨n41, n3⟩ := sgT_41 hc
  have es := m_signT ht hk
  have et := m_tight hb.1 hb.2
  obtain ⟨s1, k1, k2, k3, k4⟩ := m_close (v := tg (sgT τ)) (d := d) (by omega) P hO h23 hP hS (by omega) hl2
  have hlen : S.length < 160 := by simp at hl1; omega
  obtain ⟨e1, e2⟩ := k2.push (c := sgT τ) hlen hb
  have h19 := k2.1.1
  have f1 : fr [17, 19, 23] [3, 4, 7] s (mSi (aw s1 7 S.length (iI (sgT τ))) 19 (iI ((S.length : Int) + 1))) := ((k4.mono (J' := [3, 4, 7]) rfl rfl).aw rfl).si rfl
  obtain ⟨s2, j1, j2, j3⟩ := m_adv hT (hx.fr f1 rfl rfl) (ht.fr f1 rfl rfl rfl rfl rfl) hk n3
  have ff := (f1.mono (K' := FK0) (J' := FJ) rfl rfl).trans (j3.mono rfl rfl)
  refine ⟨s2, ?_, ⟨⟨MX.fr (K := FK0) (J := FJ) hx ff rfl rfl, j2, (tk_ok (by have := hk.1; omega) hk.1.2.2).1, ?_⟩, ⟨?_, ?_, ?_⟩, e2.fr j3 rfl rfl rfl rfl rfl⟩, ff⟩
  · have e118 : fm_formula_j118 s (iI 1) (iI (sgT τ)) = (fm_unit s2).bind fun p => some (.inl (iI 1, p)) := by
      have a1 : (aw s1 7 S.length (iI (sgT τ))).1 19 = iI S.length := h19
      unfold fm_formula_j118
      rw [et, obs, k1, obs, h19, e1, obs, a1, i1, iI_add]
      simp only [pI, obs, j1]
    have e99 : fm_formula_j99 s (iI 1) (iI (sgT τ)) = (fm_unit s2).bind fun p => some (.inl (iI 1, p)) := by
      rw [← e118]
      simp (disch := omega) only [fm_formula_j99, et, iI_lit, iI_add, iI_sub, iI_mul, iI_neg, obs, if_true, if_false, Int.reduceEq, Int.reduceLE, Int.reduceLT, Int.reduceAdd, Int.reduceSub, Int.reduceMul, Int.reduceNeg, Nat.reduceEqDiff, iI_le, iI_lt, iI_eq]
      rw [if_neg hc]
      by_cases c4 : tg (sgT τ) = 4
      · have er := m_hasRel hO (by omega)
        rw [hr c4] at er
        rw [if_pos c4, er, obs]
        rfl
      · rw [if_neg c4]
    have eb : fm_formula_b35 (iI 1, s) = (fm_unit s2).bind fun p => some (.inl (iI 1, p)) := by
      rw [← e99]
      simp (disch := omega) only [fm_formula_b35, h2, es, ht.1, iI_lit, iI_add, iI_sub, iI_mul, iI_neg, obs, if_true, if_false, Int.reduceEq, Int.reduceLE, Int.reduceLT, Int.reduceAdd, Int.reduceSub, Int.reduceMul, Int.reduceNeg, Nat.reduceEqDiff, iI_le, iI_lt, iI_eq]
      rw [if_neg n41]
    unfold mB mU
    rw [lp_bnd eb]
    cases fm_unit s2 with
    | none => rfl
    | some p => rfl
  · rw [j3.s 2 rfl, f1.s 2 rfl]; exact h2
  · rw [j3.s 20 rfl, f1.s 20 rfl]; exact h20
  · rw [j3.s 22 rfl, f1.s 22 rfl]; exact h22
  · rw [j3.s 23 rfl]; exact k3
theorem B_close (hT : txO T n) (h : MF T n s τ u m d (P ++ 20 :: S) l) (hc : tS τ = 41) (hP : ∀ c ∈ P, ¬ c = 20) (hl1 : (P ++ 20 :: S).length < 159) (hl2 : l.length + P.length ≤ 320) : ∃ s', mB s = mB s' ∧ MF T n s' (tk T n (tE τ)) u m (d - ntS P - 1) S (l ++ flS P) ∧ fr FK0 FJ s s' := by
  obtain ⟨⟨hx, ht, hk, h2⟩, ⟨h20, h22, h23⟩, hO⟩ := h
  have es := m_signT ht hk
  obtain ⟨s1, k1, k2, k3, k4⟩ := m_close (v := 0) (d := d) (by omega) P hO h23 (fun c hc => ⟨hP c hc, by have := tg_b c; omega⟩) (Or.inl rfl : lowT 0 (20 :: S)) (by omega) hl2
  have hlen : S.length < 159 := by simp at hl1; omega
  obtain ⟨t1, -, -⟩ := k2.top hlen
  have hp := k2.pop
  have f1 : fr [17, 19, 23] [3, 4] s (mSi (mSi s1 19 (iI S.length)) 23 (iI (d - ntS P - 1))) := (k4.si rfl).si rfl
  have hp2 : SO (mSi (mSi s1 19 (iI S.length)) 23 (iI (d - ntS P - 1))) S (l ++ flS P) := hp
  obtain ⟨s2, j1, j2, j3⟩ := m_adv hT (hx.fr f1 rfl rfl) (ht.fr f1 rfl rfl rfl rfl rfl) hk (by omega)
  have ff := (f1.mono (K' := FK0) (J' := FJ) rfl rfl).trans (j3.mono rfl rfl)
  have eBr := m_hasBr hO (by omega)
  rw [if_pos (by simp)] at eBr
  refine ⟨s2, ?_, ⟨⟨MX.fr (K := FK0) (J := FJ) hx ff rfl rfl, j2, (tk_ok (by have := hk.1; omega) hk.1.2.2).1, ?_⟩, ⟨?_, ?_, ?_⟩, hp2.fr j3 rfl rfl rfl rfl rfl⟩, ff⟩
  · have a1 : (mSi s1 19 (iI S.length)).1 23 = iI (d - ntS P) := k3
    have eb : fm_formula_b35 (iI 1, s) = some (.inl (iI 1, s2)) := by
      simp (disch := omega) only [fm_formula_b35, h2, es, ht.1, hc, eBr, k1, t1, pI, iI_lit, iI_add, iI_sub, iI_mul, iI_neg, obs, if_true, if_false, Int.reduceEq, Int.reduceLE, Int.reduceLT, Int.reduceAdd, Int.reduceSub, Int.reduceMul, Int.reduceNeg, Nat.reduceEqDiff, iI_le, iI_lt, iI_eq]
      rw [show (S.length : Int) + 1 - 1 = S.length by omega]
      simp only [a1, iI_sub, j1, obs]
    unfold mB
    rw [lp_back eb]
  · rw [j3.s 2 rfl, f1.s 2 rfl]; exact h2
  · rw [j3.s 20 rfl, f1.s 20 rfl]; exact h20
  · rw [j3.s 22 rfl, f1.s 22 rfl]; exact h22
  · rw [j3.s 23 rfl]; rfl
/-- no sign goes on here -/
def stpT (τ : Tk) (S : List Int) : Prop := sgT τ = 0 ∨ (tg (sgT τ) = 4 ∧ hasRel S = true)
theorem B_stop (h : MF T n s τ u m d S l) (hc : stpT τ S) (h41 : ¬ (tS τ = 41 ∧ 20 ∈ S)) (hl1 : S.length < 159) : mB s = fm_formula_j162 s := by
  obtain ⟨⟨hx, ht, hk, h2⟩, ⟨h20, h22, h23⟩, hO⟩ := h
  have hb := sgT_b (τ := τ)
  have tb := tg_b (sgT τ)
  have sb := so_b hk
  have es := m_signT ht hk
  have et := m_tight hb.1 hb.2
  have e99 : fm_formula_j99 s (iI 1) (iI (sgT τ)) = some (.inl (iI 0, s)) := by
    simp (disch := omega) only [fm_formula_j99, et, iI_lit, iI_add, iI_sub, iI_mul, iI_neg, obs, if_true, if_false, Int.reduceEq, Int.reduceLE, Int.reduceLT, Int.reduceAdd, Int.reduceSub, Int.reduceMul, Int.reduceNeg, Nat.reduceEqDiff, iI_le, iI_lt, iI_eq]
    rcases hc with c | ⟨c1, c2⟩
    · rw [if_pos c]
    · have er := m_hasRel hO (by omega)
      rw [c2] at er
      rw [if_pos c1, er, obs]
      split <;> rfl
  have eb : fm_formula_b35 (iI 1, s) = some (.inl (iI 0, s)) := by
    rw [← e99]
    simp (disch := omega) only [fm_formula_b35, h2, es, ht.1, iI_lit, iI_add, iI_sub, iI_mul, iI_neg, obs, if_true, if_false, Int.reduceEq, Int.reduceLE, Int.reduceLT, Int.reduceAdd, Int.reduceSub, Int.reduceMul, Int.reduceNeg, Nat.reduceEqDiff, iI_le, iI_lt, iI_eq]
    by_cases c : tS τ = 41
    · have eBr := m_hasBr hO (by omega)
      rw [if_neg (fun z => h41 ⟨c, z⟩)] at eBr
      rw [if_pos c, eBr, obs]
      rfl
    · rw [if_neg c]
  unfold mB
  rw [lp_back eb, lp_out (r := s) rfl, obs]
theorem B_brk (h : MF T n s τ u m d S l) (hc : stpT τ S) (h41 : ¬ tS τ = 41) (hB : 20 ∈ S) (hl1 : S.length < 159) : mB s = some (wrM s (fkT τ) (tP τ)) := by
  rw [B_stop h hc (fun z => h41 z.1) hl1]
  obtain ⟨⟨hx, ht, hk, h2⟩, ⟨h20, h22, h23⟩, hO⟩ := h
  have eBr := m_hasBr hO (by omega)
  rw [if_pos hB] at eBr
  have kk := m_wrong (k := 2) ht hk h2
  rw [show (if tS τ = 3 then (1 : Int) else 2) = fkT τ from rfl] at kk
  have fb := fkT_b τ
  have e2 : (wrM s (fkT τ) (tP τ)).1 2 = iI (fkT τ) := rfl
  simp (disch := omega) only [fm_formula_j162, fm_formula_j181, h2, eBr, kk, e2, iI_lit, iI_add, iI_sub, iI_mul, iI_neg, obs, if_true, if_false, Int.reduceEq, Int.reduceLE, Int.reduceLT, Int.reduceAdd, Int.reduceSub, Int.reduceMul, Int.reduceNeg, Nat.reduceEqDiff, iI_le, iI_lt, iI_eq]
  rw [if_neg (by omega)]
theorem B_end (h : MF T n s τ u m d S l) (hc : stpT τ S) (hB : ¬ 20 ∈ S) (hl1 : S.length < 159) (hl2 : l.length + S.length ≤ 320) : ∃ s', mB s = some s' ∧ MT s' τ ∧ s'.1 2 = iI 0 ∧ s'.1 20 = iI u ∧ SO s' [] (l ++ flS S) ∧ fr FK0 FJ s s' := by
  rw [B_stop h hc (fun z => hB z.2) hl1]
  obtain ⟨⟨hx, ht, hk, h2⟩, ⟨h20, h22, h23⟩, hO⟩ := h
  have eBr := m_hasBr hO (by omega)
  rw [if_neg hB] at eBr
  obtain ⟨s1, k1, k2, k3, k4⟩ := m_close (S := []) (v := 0) (d := d) (by omega) S (by rw [List.append_nil]; exact hO) h23 (fun c hc => ⟨fun z => hB (z ▸ hc), by have := tg_b c; omega⟩) trivial (by rw [List.append_nil]; omega) hl2
  refine ⟨s1, ?_, ht.fr k4 rfl rfl rfl rfl rfl, by rw [k4.s 2 rfl]; exact h2, by rw [k4.s 20 rfl]; exact h20, k2, k4.mono rfl rfl⟩
  simp (disch := omega) only [fm_formula_j162, fm_formula_j181, h2, eBr, k1, iI_lit, iI_add, iI_sub, iI_mul, iI_neg, obs, if_true, if_false, Int.reduceEq, Int.reduceLE, Int.reduceLT, Int.reduceAdd, Int.reduceSub, Int.reduceMul, Int.reduceNeg, Nat.reduceEqDiff, iI_le, iI_lt, iI_eq]
end M2f

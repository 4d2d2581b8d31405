/-! LAYER 3, the formula: the model's steps -/
set_option maxRecDepth 100000
def FK : List Nat := [2, 3, 4, 6, 7, 8, 100, 17, 19, 20, 22, 23]
def FK0 : List Nat := [4, 6, 7, 8, 100, 17, 19, 20, 22, 23]
def FJ : List Nat := [3, 4, 7]
/-- the model within a formula: token, units, own units, depth, stack, steps -/
def MF (T : Int → Int) (n : Int) (s : mS) (τ : Tk) (u m d : Int) (S : List Int) (l : List (Nat × Int32)) : Prop := (MX T n s ∧ MT s τ ∧ tkO T n τ ∧ s.1 2 = iI 0) ∧ (s.1 20 = iI u ∧ s.1 22 = iI m ∧ s.1 23 = iI d) ∧ SO s S l
/-- it ahead of a sign; it ahead of a unit -/
noncomputable def mB (s : mS) : Option mS := (lp fm_formula_b35 (iI 1, s)).bind fm_formula_j162
noncomputable def mU (s : mS) : Option mS := (fm_unit s).bind mB
def lfS (τ : Tk) : Nat × Int32 := if 0 ≤ ixW τ namedW 0 then (1, iI (ixW τ namedW 0)) else (0, iI (tN τ))
section M1f
variable {T : Int → Int} {n : Int} {s : mS} {τ : Tk} {u m d : Int} {S P : List Int} {l : List (Nat × Int32)}
theorem mB_F {k : Int} (h2 : s.1 2 = iI k) (hk : 1 ≤ k ∧ k ≤ 4) : mB s = some s := by
  unfold mB
  rw [lp_out (r := s) (by
    simp (disch := omega) only [fm_formula_b35, h2, iI_lit, iI_add, iI_sub, iI_mul, iI_neg, obs, if_true, if_false, Int.reduceEq, Int.reduceLE, Int.reduceLT, Int.reduceAdd, Int.reduceSub, Int.reduceMul, Int.reduceNeg, Nat.reduceEqDiff, iI_le, iI_lt, iI_eq]
    rw [if_neg (by omega)]), obs]
  simp (disch := omega) only [fm_formula_j162, fm_formula_j181, h2, iI_lit, iI_add, iI_sub, iI_mul, iI_neg, obs, if_true, if_false, Int.reduceEq, Int.reduceLE, Int.reduceLT, Int.reduceAdd, Int.reduceSub, Int.reduceMul, Int.reduceNeg, Nat.reduceEqDiff, iI_le, iI_lt, iI_eq]
  rw [if_neg (by omega), if_neg (by omega)]
theorem mU_F {k : Int} (h2 : s.1 2 = iI k) (hk : 1 ≤ k ∧ k ≤ 4) : mU s = some s := by
  unfold mU fm_unit
  rw [i1, lp_out (r := s) (by
    simp (disch := omega) only [fm_unit_b2, h2, iI_lit, iI_add, iI_sub, iI_mul, iI_neg, obs, if_true, if_false, Int.reduceEq, Int.reduceLE, Int.reduceLT, Int.reduceAdd, Int.reduceSub, Int.reduceMul, Int.reduceNeg, Nat.reduceEqDiff, iI_le, iI_lt, iI_eq]
    rw [if_neg (by omega)]), obs]
  have : fm_unit_j101 s = some s := by
    simp (disch := omega) only [fm_unit_j101, h2, iI_lit, iI_add, iI_sub, iI_mul, iI_neg, obs, if_true, if_false, Int.reduceEq, Int.reduceLE, Int.reduceLT, Int.reduceAdd, Int.reduceSub, Int.reduceMul, Int.reduceNeg, Nat.reduceEqDiff, iI_le, iI_lt, iI_eq]
    rw [if_neg (by omega)]
  rw [this, obs]
  exact mB_F h2 hk
theorem mU_back {s' : mS} (e : fm_unit_b2 (iI 1, s) = some (.inl (iI 1, s'))) : mU s = mU s' := by
  unfold mU fm_unit
  rw [i1, lp_back e]
theorem m_openUp {c : Int} (h : SO s S l) (h23 : s.1 23 = iI d) (hS : S.length < 160) (hc : 0 ≤ c ∧ c ≤ 255) : ∃ s1, fm_openUp s (iI c) = (if s.1 2 = iI 0 then (fm_token s1).bind fun p38 => some p38 else some s1) ∧ SO s1 (c :: S) l ∧ s1.1 23 = iI (d + 1) ∧ fr [19, 23] [7] s s1 := by
  obtain ⟨e1, e2⟩ := h.push hS hc
  have f1 : fr [19, 23] [7] s (mSi (mSi (aw s 7 S.length (iI c)) 19 (iI ((S.length : Int) + 1))) 23 (iI (d + 1))) := ((fr.refl.aw rfl).si rfl).si rfl
  refine ⟨mSi (mSi (aw s 7 S.length (iI c)) 19 (iI ((S.length : Int) + 1))) 23 (iI (d + 1)), ?_, e2, si_eq, f1⟩
  have h19 := h.1.1
  have a1 : (aw s 7 S.length (iI c)).1 19 = iI S.length := h19
  have a2 : (mSi (aw s 7 S.length (iI c)) 19 (iI ((S.length : Int) + 1))).1 23 = iI d := h23
  have a3 : (mSi (mSi (aw s 7 S.length (iI c)) 19 (iI ((S.length : Int) + 1))) 23 (iI (d + 1))).1 2 = s.1 2 := rfl
  unfold fm_openUp
  rw [h19, e1, obs, a1]
  simp only [pI, obs, i1, iI_add, a2, a3, i0]
theorem U_not (hT : txO T n) (h : MF T n s τ u m d S l) (hd : 0 ≤ d ∧ d ≤ 7) (hS : S.length < 160) (hw : isW τ W_not) (hm : mayN S) : (d ≤ 6 → ∃ s', mU s = mU s' ∧ MF T n s' (tk T n (tE τ)) u m (d + 1) (21 :: S) l ∧ fr FK0 FJ s s') ∧ (¬ d ≤ 6 → ∃ s', mU s = some s' ∧ s'.1 2 = iI 2 ∧ s'.1 3 = iI (tP τ) ∧ fr FK FJ s s') := by
  obtain ⟨⟨hx, ht, hk, h2⟩, ⟨h20, h22, h23⟩, hO⟩ := h
  have ew := m_isW (w := W_not) ht hk
  rw [if_pos hw] at ew
  have em := (m_mayN hO hS).1 hm
  have w1 := hw.1
  refine ⟨fun z => ?_, fun z => ?_⟩
  · obtain ⟨s1, k1, k2, k3, k4⟩ := m_openUp (c := 21) hO h23 hS (by omega)
    have t1 : MT s1 τ := ⟨by rw [k4.s 6 rfl]; exact ht.1, by rw [k4.s 7 rfl]; exact ht.2.1, fun q => by rw [k4.s 4 rfl]; exact ht.2.2.1 q, fun q => by rw [k4.s 8 rfl]; exact ht.2.2.2.1 q, fun q => by rw [k4.w rfl]; exact ht.2.2.2.2 q⟩
    obtain ⟨s2, j1, j2, j3⟩ := m_adv hT (hx.fr k4 rfl rfl) t1 hk (by omega)
    have ff := (k4.mono (K' := FK0) (J' := FJ) rfl rfl).trans (j3.mono rfl rfl)
    refine ⟨s2, mU_back ?_, ⟨⟨MX.fr (K := FK0) (J := FJ) hx ff rfl rfl, j2, (tk_ok (by have := hk.1; omega) hk.1.2.2).1, ?_⟩, ⟨?_, ?_, ?_⟩, k2.fr j3 rfl rfl rfl rfl rfl⟩, ff⟩
    · simp (disch := omega) only [fm_unit_b2, cW_not, h2, ew, em, h23, k1, j1, iI_lit, iI_add, iI_sub, iI_mul, iI_neg, obs, if_true, if_false, Int.reduceEq, Int.reduceLE, Int.reduceLT, Int.reduceAdd, Int.reduceSub, Int.reduceMul, Int.reduceNeg, Nat.reduceEqDiff, iI_le, iI_lt, iI_eq]
      rw [if_pos z]
    · rw [j3.s 2 rfl, k4.s 2 rfl]; exact h2
    · rw [j3.s 20 rfl, k4.s 20 rfl]; exact h20
    · rw [j3.s 22 rfl, k4.s 22 rfl]; exact h22
    · rw [j3.s 23 rfl]; exact k3
  · have kk := m_wrong (k := 2) ht hk h2
    rw [if_neg (by omega)] at kk
    have fw : fr [2, 3] [] s (wrM s 2 (tP τ)) := (fr.refl.si rfl).si rfl
    obtain ⟨s1, k1, k2, k3, k4⟩ := m_openUp (s := wrM s 2 (tP τ)) (c := 21) (hO.fr fw rfl rfl rfl rfl rfl) (by rw [fw.s 23 rfl]; exact h23) hS (by omega)
    have e2 : (wrM s 2 (tP τ)).1 2 = iI 2 := rfl
    rw [if_neg (by rw [e2]; decide)] at k1
    have e3 : s1.1 2 = iI 2 := by rw [k4.s 2 rfl]; rfl
    refine ⟨s1, ?_, e3, by rw [k4.s 3 rfl]; rfl, (fw.mono rfl rfl).trans (k4.mono rfl rfl)⟩
    rw [← mU_F e3 (by omega)]
    refine mU_back ?_
    simp (disch := omega) only [fm_unit_b2, cW_not, h2, ew, em, h23, kk, k1, iI_lit, iI_add, iI_sub, iI_mul, iI_neg, obs, if_true, if_false, Int.reduceEq, Int.reduceLE, Int.reduceLT, Int.reduceAdd, Int.reduceSub, Int.reduceMul, Int.reduceNeg, Nat.reduceEqDiff, iI_le, iI_lt, iI_eq]
    rw [if_neg z]
theorem m_notN (h : MF T n s τ u m d S l) (hS : S.length < 160) (hw : ¬ (isW τ W_not ∧ mayN S)) : fm_unit_b2 (iI 1, s) = fm_unit_j53 s (iI 1) := by
  obtain ⟨⟨hx, ht, hk, h2⟩, ⟨h20, h22, h23⟩, hO⟩ := h
  have ew := m_isW (w := W_not) ht hk
  simp (disch := omega) only [fm_unit_b2, cW_not, h2, ew, iI_lit, iI_add, iI_sub, iI_mul, iI_neg, obs, if_true, if_false, Int.reduceEq, Int.reduceLE, Int.reduceLT, Int.reduceAdd, Int.reduceSub, Int.reduceMul, Int.reduceNeg, Nat.reduceEqDiff, iI_le, iI_lt, iI_eq]
  by_cases c : isW τ W_not
  · have em := (m_mayN hO hS).2 (fun z => hw ⟨c, z⟩)
    simp only [if_pos c, show ¬ iI 1 = iI 0 by decide, if_false, em, iI_lit, iI_add, iI_sub, iI_mul, iI_neg, obs, if_true, if_false, Int.reduceEq, Int.reduceLE, Int.reduceLT, Int.reduceAdd, Int.reduceSub, Int.reduceMul, Int.reduceNeg, Nat.reduceEqDiff]
  · simp only [if_neg c, if_true]
theorem m_full (h20 : s.1 20 = iI u) (h22 : s.1 22 = iI m) (hu : 0 ≤ u ∧ u ≤ 60) (hm : 0 ≤ m ∧ m ≤ 30) : fm_isFull s = some (if u = 60 ∨ m = 30 then iI 1 else iI 0) := by
  simp (disch := omega) only [fm_isFull, h20, h22, iI_lit, iI_add, iI_sub, iI_mul, iI_neg, obs, if_true, if_false, Int.reduceEq, Int.reduceLE, Int.reduceLT, Int.reduceAdd, Int.reduceSub, Int.reduceMul, Int.reduceNeg, Nat.reduceEqDiff, iI_le, iI_lt, iI_eq]
  by_cases c : u = 60
  · rw [if_pos c, if_pos (Or.inl c)]
  · rw [if_neg c]
    by_cases e : m = 30
    · rw [if_pos e, if_pos (Or.inr e)]
    · rw [if_neg e, if_neg (by omega)]
theorem m_count (h20 : s.1 20 = iI u) (h22 : s.1 22 = iI m) : ∃ s', fm_countUnit s = some s' ∧ s'.1 20 = iI (u + 1) ∧ s'.1 22 = iI (m + 1) ∧ fr [20, 22] [] s s' := by
  refine ⟨mSi (mSi s 20 (iI (u + 1))) 22 (iI (m + 1)), ?_, rfl, si_eq, (fr.refl.si rfl).si rfl⟩
  have e : (mSi s 20 (iI (u + 1))).1 22 = iI m := h22
  simp only [fm_countUnit, pI, h20, iI_lit, iI_add, iI_sub, iI_mul, iI_neg, obs, if_true, if_false, Int.reduceEq, Int.reduceLE, Int.reduceLT, Int.reduceAdd, Int.reduceSub, Int.reduceMul, Int.reduceNeg, Nat.reduceEqDiff, e]
theorem U_br (hT : txO T n) (h : MF T n s τ u m d S l) (hu : 0 ≤ u ∧ u ≤ 60) (hm : 0 ≤ m ∧ m ≤ 30) (hd : 0 ≤ d ∧ d ≤ 7) (hS : S.length < 160) (hw : tS τ = 40) : (¬ (u = 60 ∨ m = 30) ∧ d ≤ 6 → ∃ s', mU s = mU s' ∧ MF T n s' (tk T n (tE τ)) (u + 1) (m + 1) (d + 1) (20 :: S) l ∧ fr FK0 FJ s s') ∧ (¬ (¬ (u = 60 ∨ m = 30) ∧ d ≤ 6) → ∃ s', mU s = some s' ∧ s'.1 2 = iI 2 ∧ s'.1 3 = iI (tP τ) ∧ fr FK FJ s s') := by
  have hN := m_notN h hS (fun z => by have := z.1.1; omega)
  obtain ⟨⟨hx, ht, hk, h2⟩, ⟨h20, h22, h23⟩, hO⟩ := h
  have ef := m_full h20 h22 hu hm
  refine ⟨fun z => ?_, fun z => ?_⟩
  · obtain ⟨s0, i1', i2, i3, i4⟩ := m_count h20 h22
    obtain ⟨s1, k1, k2, k3, k4⟩ := m_openUp (s := s0) (c := 20) (hO.fr i4 rfl rfl rfl rfl rfl) (by rw [i4.s 23 rfl]; exact h23) hS (by omega)
    rw [if_pos (by rw [i4.s 2 rfl]; exact h2)] at k1
    have k5 : fr [20, 22, 19, 23] [7] s s1 := (i4.mono rfl rfl).trans (k4.mono rfl rfl)
    have t1 : MT s1 τ := ⟨by rw [k5.s 6 rfl]; exact ht.1, by rw [k5.s 7 rfl]; exact ht.2.1, fun q => by rw [k5.s 4 rfl]; exact ht.2.2.1 q, fun q => by rw [k5.s 8 rfl]; exact ht.2.2.2.1 q, fun q => by rw [k5.w rfl]; exact ht.2.2.2.2 q⟩
    obtain ⟨s2, j1, j2, j3⟩ := m_adv hT (hx.fr k5 rfl rfl) t1 hk (by omega)
    have ff := (k5.mono (K' := FK0) (J' := FJ) rfl rfl).trans (j3.mono rfl rfl)
    refine ⟨s2, mU_back ?_, ⟨⟨MX.fr (K := FK0) (J := FJ) hx ff rfl rfl, j2, (tk_ok (by have := hk.1; omega) hk.1.2.2).1, ?_⟩, ⟨?_, ?_, ?_⟩, k2.fr j3 rfl rfl rfl rfl rfl⟩, ff⟩
    · rw [hN]
      simp (disch := omega) only [fm_unit_j53, ht.1, hw, ef, if_neg z.1, h23, i1', k1, j1, iI_lit, iI_add, iI_sub, iI_mul, iI_neg, obs, if_true, if_false, Int.reduceEq, Int.reduceLE, Int.reduceLT, Int.reduceAdd, Int.reduceSub, Int.reduceMul, Int.reduceNeg, Nat.reduceEqDiff, iI_le, iI_lt, iI_eq]
      rw [if_pos z.2]
    · rw [j3.s 2 rfl, k5.s 2 rfl]; exact h2
    · rw [j3.s 20 rfl, k4.s 20 rfl]; exact i2
    · rw [j3.s 22 rfl, k4.s 22 rfl]; exact i3
    · rw [j3.s 23 rfl]; exact k3
  · have kk := m_wrong (k := 2) ht hk h2
    rw [if_neg (by omega)] at kk
    have fw : fr [2, 3] [] s (wrM s 2 (tP τ)) := (fr.refl.si rfl).si rfl
    obtain ⟨s0, i1', i2, i3, i4⟩ := m_count (s := wrM s 2 (tP τ)) h20 h22
    have fw2 : fr [2, 3, 20, 22] [] s s0 := (fw.mono rfl rfl).trans (i4.mono rfl rfl)
    obtain ⟨s1, k1, k2, k3, k4⟩ := m_openUp (s := s0) (c := 20) (hO.fr fw2 rfl rfl rfl rfl rfl) (by rw [fw2.s 23 rfl]; exact h23) hS (by omega)
    have e2 : s0.1 2 = iI 2 := by rw [i4.s 2 rfl]; rfl
    rw [if_neg (by rw [e2]; decide)] at k1
    have e3 : s1.1 2 = iI 2 := by rw [k4.s 2 rfl]; exact e2
    refine ⟨s1, ?_, e3, by rw [k4.s 3 rfl, i4.s 3 rfl]; rfl, (fw2.mono rfl rfl).trans (k4.mono rfl rfl)⟩
    rw [← mU_F e3 (by omega)]
    refine mU_back ?_
    rw [hN]
    have e78 : fm_unit_j78 s (iI 1) = some (.inl (iI 1, s1)) := by
      simp only [fm_unit_j78, kk, i1', k1, iI_lit, iI_add, iI_sub, iI_mul, iI_neg, obs, if_true, if_false, Int.reduceEq, Int.reduceLE, Int.reduceLT, Int.reduceAdd, Int.reduceSub, Int.reduceMul, Int.reduceNeg, Nat.reduceEqDiff]
    simp (disch := omega) only [fm_unit_j53, ht.1, hw, ef, h23, iI_lit, iI_add, iI_sub, iI_mul, iI_neg, obs, if_true, if_false, Int.reduceEq, Int.reduceLE, Int.reduceLT, Int.reduceAdd, Int.reduceSub, Int.reduceMul, Int.reduceNeg, Nat.reduceEqDiff, iI_le, iI_lt, iI_eq]
    by_cases c : u = 60 ∨ m = 30
    · simp only [if_pos c, show ¬ iI 1 = iI 0 by decide, if_false, e78]
    · simp only [if_neg c, if_true]
      rw [if_neg (fun q => z ⟨c, q⟩), e78]
theorem U_leaf (hT : txO T n) (h : MF T n s τ u m d S l) (hu : 0 ≤ u ∧ u ≤ 60) (hm : 0 ≤ m ∧ m ≤ 30) (hS : S.length < 160) (hl : l.length < 320) (hw : ¬ (isW τ W_not ∧ mayN S)) (hb : ¬ tS τ = 40) : ((tS τ = 2 ∨ 0 ≤ ixW τ namedW 0) ∧ ¬ (u = 60 ∨ m = 30) → ∃ s', mU s = mB s' ∧ MF T n s' (tk T n (tE τ)) (u + 1) (m + 1) d S (l ++ [lfS τ]) ∧ fr FK0 FJ s s') ∧ (¬ ((tS τ = 2 ∨ 0 ≤ ixW τ namedW 0) ∧ ¬ (u = 60 ∨ m = 30)) → ∃ s', mU s = some s' ∧ s'.1 2 = iI (fkT τ) ∧ s'.1 3 = iI (tP τ) ∧ fr FK FJ s s') := by
  have hN := m_notN h hS hw
  obtain ⟨⟨hx, ht, hk, h2⟩, ⟨h20, h22, h23⟩, hO⟩ := h
  have ef := m_full h20 h22 hu hm
  have hsb := so_b hk
  have ea := m_asked ht hk
  have hi : -1 ≤ ixW τ namedW 0 ∧ ixW τ namedW 0 < 6 ∧ (0 ≤ ixW τ namedW 0 → tS τ = 1) := by
    rcases ixW_b τ namedW 0 (Int.le_refl 0) with ⟨q1, q2⟩ | ⟨q1, q2, q3⟩
    · exact ⟨by omega, by omega, fun z => by omega⟩
    · have : namedW.length = 6 := rfl
      exact ⟨by omega, by omega, fun _ => q3⟩
  have hloop : fm_unit s = fm_unit_j101 s := by
    unfold fm_unit
    have e1 : fm_unit_b2 (iI 1, s) = some (.inl (iI 0, s)) := by
      rw [hN]
      simp (disch := omega) only [fm_unit_j53, ht.1, iI_lit, iI_add, iI_sub, iI_mul, iI_neg, obs, if_true, if_false, Int.reduceEq, Int.reduceLE, Int.reduceLT, Int.reduceAdd, Int.reduceSub, Int.reduceMul, Int.reduceNeg, Nat.reduceEqDiff, iI_le, iI_lt, iI_eq]
      rw [if_neg hb]
    have e2 : fm_unit_b2 (iI 0, s) = some (.inr s) := rfl
    rw [i1, lp_back e1, lp_out e2, obs]
  refine ⟨fun z => ?_, fun z => ?_⟩
  · obtain ⟨z1, z2⟩ := z
    obtain ⟨s0, i1', i2, i3, i4⟩ := m_count h20 h22
    have h3 : ¬ tS τ = 3 := by
      rcases z1 with q | q
      · omega
      · have := hi.2.2 q; omega
    have e138 : fm_unit_j101 s = fm_unit_j138 s (iI (ixW τ namedW 0)) := by
      simp (disch := omega) only [fm_unit_j101, h2, ea, ht.1, ef, if_neg z2, iI_lit, iI_add, iI_sub, iI_mul, iI_neg, obs, if_true, if_false, Int.reduceEq, Int.reduceLE, Int.reduceLT, Int.reduceAdd, Int.reduceSub, Int.reduceMul, Int.reduceNeg, Nat.reduceEqDiff, iI_le, iI_lt, iI_eq]
      by_cases c : tS τ = 2
      · rw [if_pos c]
      · rw [if_neg c, if_neg (by omega)]
    have h8 : tS τ = 2 → s0.1 8 = iI (tN τ) := fun q => by rw [i4.s 8 rfl]; exact ht.2.2.2.1 q
    obtain ⟨s1, k1, k2, k3⟩ := m_add (s := s0) (k0 := (lfS τ).1) (v := (lfS τ).2) (hO.fr i4 rfl rfl rfl rfl rfl) hl
    have k5 : fr [20, 22, 17] [3, 4] s s1 := (i4.mono rfl rfl).trans (k3.mono rfl rfl)
    have t1 : MT s1 τ := ⟨by rw [k5.s 6 rfl]; exact ht.1, by rw [k5.s 7 rfl]; exact ht.2.1, fun q => by rw [k5.s 4 rfl]; exact ht.2.2.1 q, fun q => by rw [k5.s 8 rfl]; exact ht.2.2.2.1 q, fun q => by rw [k5.w rfl]; exact ht.2.2.2.2 q⟩
    obtain ⟨s2, j1, j2, j3⟩ := m_adv hT (hx.fr k5 rfl rfl) t1 hk h3
    have ff := (k5.mono (K' := FK0) (J' := FJ) rfl rfl).trans (j3.mono rfl rfl)
    refine ⟨s2, ?_, ⟨⟨MX.fr (K := FK0) (J := FJ) hx ff rfl rfl, j2, (tk_ok (by have := hk.1; omega) hk.1.2.2).1, ?_⟩, ⟨?_, ?_, ?_⟩, k2.fr j3 rfl rfl rfl rfl rfl⟩, ff⟩
    · have : fm_unit_j138 s (iI (ixW τ namedW 0)) = some s2 := by
        simp (disch := omega) only [fm_unit_j138, fm_unit_j160, h2, i1', iI_lit, iI_add, iI_sub, iI_mul, iI_neg, obs, if_true, if_false, Int.reduceEq, Int.reduceLE, Int.reduceLT, Int.reduceAdd, Int.reduceSub, Int.reduceMul, Int.reduceNeg, Nat.reduceEqDiff, iI_le, iI_lt, iI_eq]
        unfold lfS at k1
        by_cases c : 0 ≤ ixW τ namedW 0
        · rw [if_pos c] at k1
          have k1' : fm_add s0 (iI 1) (iI (ixW τ namedW 0)) = some s1 := k1
          simp only [if_pos c, k1', j1, iI_lit, iI_add, iI_sub, iI_mul, iI_neg, obs, if_true, if_false, Int.reduceEq, Int.reduceLE, Int.reduceLT, Int.reduceAdd, Int.reduceSub, Int.reduceMul, Int.reduceNeg, Nat.reduceEqDiff]
        · rw [if_neg c] at k1
          have k1' : fm_add s0 (iI 0) (iI (tN τ)) = some s1 := k1
          have c2 : tS τ = 2 := by omega
          simp only [if_neg c, h8 c2, k1', j1, iI_lit, iI_add, iI_sub, iI_mul, iI_neg, obs, if_true, if_false, Int.reduceEq, Int.reduceLE, Int.reduceLT, Int.reduceAdd, Int.reduceSub, Int.reduceMul, Int.reduceNeg, Nat.reduceEqDiff]
      unfold mU
      rw [hloop, e138, this, obs]
    · rw [j3.s 2 rfl, k5.s 2 rfl]; exact h2
    · rw [j3.s 20 rfl, k3.s 20 rfl]; exact i2
    · rw [j3.s 22 rfl, k3.s 22 rfl]; exact i3
    · rw [j3.s 23 rfl, k5.s 23 rfl]; exact h23
  · have kk := m_wrong (k := 2) ht hk h2
    rw [show (if tS τ = 3 then (1 : Int) else 2) = fkT τ from rfl] at kk
    have fb := fkT_b τ
    have e2 : (wrM s (fkT τ) (tP τ)).1 2 = iI (fkT τ) := rfl
    refine ⟨wrM s (fkT τ) (tP τ), ?_, e2, rfl, (fr.refl.si rfl).si rfl⟩
    have e133 : ∀ v, fm_unit_j133 s v = some (wrM s (fkT τ) (tP τ)) := by
      intro v
      simp (disch := omega) only [fm_unit_j133, fm_unit_j138, kk, e2, iI_lit, iI_add, iI_sub, iI_mul, iI_neg, obs, if_true, if_false, Int.reduceEq, Int.reduceLE, Int.reduceLT, Int.reduceAdd, Int.reduceSub, Int.reduceMul, Int.reduceNeg, Nat.reduceEqDiff, iI_le, iI_lt, iI_eq]
      rw [if_neg (by omega)]
    unfold mU
    rw [hloop]
    have : fm_unit_j101 s = some (wrM s (fkT τ) (tP τ)) := by
      simp (disch := omega) only [fm_unit_j101, h2, ea, ht.1, ef, e133, iI_lit, iI_add, iI_sub, iI_mul, iI_neg, obs, if_true, if_false, Int.reduceEq, Int.reduceLE, Int.reduceLT, Int.reduceAdd, Int.reduceSub, Int.reduceMul, Int.reduceNeg, Nat.reduceEqDiff, iI_le, iI_lt, iI_eq]
      by_cases c : u = 60 ∨ m = 30
      · simp only [if_pos c, show ¬ iI 1 = iI 0 by decide, if_false, ite_self]
      · simp only [if_neg c, if_true]
        rw [if_neg (fun q => z ⟨Or.inl q, c⟩), if_pos (by omega)]
    rw [this, obs]
    exact mB_F e2 (by omega)
end M1f

/-! LAYER 3: the model's acts -/
set_option maxRecDepth 100000
/-- what is kept ahead of an act -/
def uAct (μ : Mu) : Mu := (uR μ, uX μ, upN (upN (uS μ) 57 (if uS μ 57 = 40 then 40 else uS μ 57 + 1)) 58 0, (fun k => if uS μ 57 = 40 then (if k = 39 then uX μ else uW μ (k + 1)) else (if k = uS μ 57 then uX μ else uW μ k)), uB μ, uA μ)
/-- now and what is kept at k change places -/
def uEx (μ : Mu) (k a n : Int) : Mu := (uR μ, uW μ k, upN (upN (uS μ) 57 a) 58 n, (fun j => if j = k then uX μ else uW μ j), uB μ, uA μ)
theorem uAct_wf {μ : Mu} (h : wfM μ) : wfM (uAct μ) := by
  obtain ⟨a1, a2, a3, a4, a5, a6, a7, a8, a9, a10, a11, a12⟩ := h
  refine ⟨a1, a2, a3, a4, ?_, fun k h1 h2 => ?_, a7, a8, a9, a10, a11, a12⟩
  · show 0 ≤ (if uS μ 57 = 40 then 40 else uS μ 57 + 1) ∧ (0 : Int) ≤ 0 ∧ (if uS μ 57 = 40 then 40 else uS μ 57 + 1) + 0 ≤ 40
    split <;> omega
  · have h2 : k < (if uS μ 57 = 40 then 40 else uS μ 57 + 1) + 0 := h2
    show wfS (uR μ) (if uS μ 57 = 40 then (if k = 39 then uX μ else uW μ (k + 1)) else (if k = uS μ 57 then uX μ else uW μ k))
    split
    · rename_i h
      rw [if_pos h] at h2
      split
      · exact a2
      · exact a6 (k + 1) (by omega) (by omega)
    · rename_i h
      rw [if_neg h] at h2
      split
      · exact a2
      · exact a6 k h1 (by omega)
theorem uEx_wf {μ : Mu} {k a n : Int} (h : wfM μ) (h1 : 0 ≤ k) (h2 : k < uS μ 57 + uS μ 58) (h3 : 0 ≤ a) (h4 : 0 ≤ n) (h5 : a + n = uS μ 57 + uS μ 58) : wfM (uEx μ k a n) := by
  obtain ⟨a1, a2, a3, a4, a5, a6, a7, a8, a9, a10, a11, a12⟩ := h
  refine ⟨a1, a6 k h1 h2, a3, a4, ⟨h3, h4, by show a + n ≤ 40; omega⟩, fun j j1 j2 => ?_, a7, a8, a9, a10, a11, a12⟩
  have j2 : j < a + n := j2
  show wfS (uR μ) (if j = k then uX μ else uW μ j)
  split
  · exact a2
  · exact a6 j j1 (by omega)
section B5
variable {μ : Mu} {s : mS}
/-- another state, time of acts: what of MR does not speak of them -/
theorem MR.acts {s1 : mS} {x' : Int → Int} {a n : Int} {W' : Int → Int → Int} {J : List Nat} (h : MR μ s) (f : fr [57, 58] J s s1) (hJ : J.all (fun k => !([16, 17, 18, 19, 20, 21, 5, 6, 1, 26, 34, 35, 36, 37, 38, 39, 43, 44].contains k)) = true) (e0 : ar s1 22 28 x') (e1 : s1.1 57 = iI a) (e2 : s1.1 58 = iI n) (e3 : ∀ k i, 0 ≤ k → k < a + n → 0 ≤ i → i < 28 → s1.2.2.1 24 (28 * k + i).toNat = iI (W' k i)) : MR (uR μ, x', upN (upN (uS μ) 57 a) 58 n, W', uB μ, uA μ) s1 := by
  obtain ⟨h1, h2, ⟨a1, a2, a3, a4, a5, a6, a7, a8⟩, h4, h5, h6, h7, h8, h9⟩ := h
  refine ⟨h1.fr f rfl (all_sub hJ rfl), e0, ⟨?_, ?_, ?_, e1, e2, ?_, ?_, ?_⟩, f.ar h4 (off_all hJ rfl), f.ar h5 (off_all hJ rfl), fun i hi => ?_, f.ar h7 (off_all hJ rfl), e3, ?_⟩
  · rw [f.s 1 rfl]; exact a1
  · rw [f.s 2 rfl]; exact a2
  · rw [f.s 3 rfl]; exact a3
  · rw [f.s 61 rfl]; exact a6
  · rw [f.s 75 rfl]; exact a7
  · rw [f.s 76 rfl]; exact a8
  · have hi2 := hi
    simp only [sgJ, List.mem_cons, List.not_mem_nil, or_false] at hi
    rcases hi with rfl | rfl | rfl | rfl | rfl | rfl <;> exact f.ar (h6 _ hi2) (off_all hJ rfl)
  · rw [f.a 44 (off_all hJ rfl)]; exact h9
theorem m_keep {a : Int} {x : Int → Int} (ha : ar s 22 28 x) (h57 : s.1 57 = iI a) (h1 : 0 ≤ a) (h2 : a < 40) : ∃ r, lp fm_act_b51 (0, s) = some r ∧ (fr [] [24] s r ∧ (∀ i, 0 ≤ i → i < 28 → r.2.2.1 24 (28 * a + i).toNat = iI (x i)) ∧ (∀ z, 0 ≤ z → z < 28 * a → r.2.2.1 24 z.toNat = s.2.2.1 24 z.toNat)) := by
  refine lp_inv (fun i q => q.1 = iI i ∧ fr [] [24] s q.2 ∧ (∀ z, 0 ≤ z → z < (i : Int) → q.2.2.2.1 24 (28 * a + z).toNat = iI (x z)) ∧ (∀ z, 0 ≤ z → z < 28 * a → q.2.2.2.1 24 z.toNat = s.2.2.1 24 z.toNat)) 28 ?_ ?_ ⟨rfl, fr.refl, fun z z1 z2 => by omega, fun z _ _ => rfl⟩
  · rintro i ⟨k, u⟩ hi ⟨g1, g2, g3, g4⟩
    simp only at g1 g2 g3 g4
    subst g1
    have q1 : u.2.2.1 22 (i : Int).toNat = iI (x i) := by rw [g2.a 22 rfl]; exact ha i (by omega) (by omega)
    have q2 : u.1 57 = iI a := by rw [g2.s 57 rfl]; exact h57
    left
    refine ⟨(iI ((i : Int) + 1), aw u 24 (28 * a + i).toNat (iI (x i))), ?_, rfl, g2.aw rfl, fun z z1 z2 => ?_, fun z z1 z2 => ?_⟩
    · simp (disch := omega) only [fm_act_b51, iI_lit, iI_add, iI_sub, iI_mul, iI_neg, Option.bind_some, if_true, if_false, Int.reduceEq, Int.reduceLE, Int.reduceLT, Int.reduceAdd, Int.reduceSub, Int.reduceMul, Int.reduceNeg, Nat.reduceEqDiff, iI_le, iI_lt, iI_eq, ld_i, sto_w, q1, q2]
      rw [if_neg (by omega)]
    · simp only [aw_get, true_and]
      by_cases hz : z = i
      · subst hz; rw [if_pos rfl]
      · rw [if_neg (by omega)]; exact g3 z z1 (by omega)
    · simp only [aw_get, true_and]
      rw [if_neg (by omega)]
      exact g4 z z1 z2
  · rintro ⟨k, u⟩ ⟨g1, g2, g3, g4⟩
    simp only at g1 g2 g3 g4
    subst g1
    refine ⟨u, ?_, g2, fun i i1 i2 => g3 i i1 (by omega), g4⟩
    simp (disch := omega) only [fm_act_b51, iI_lit, iI_add, iI_sub, iI_mul, iI_neg, Option.bind_some, if_true, if_false, Int.reduceEq, Int.reduceLE, Int.reduceLT, Int.reduceAdd, Int.reduceSub, Int.reduceMul, Int.reduceNeg, Nat.reduceEqDiff, iI_le, iI_lt, iI_eq]
    rfl
theorem m_shift (s : mS) : ∃ r, lp fm_act_b11 (0, s) = some r ∧ (fr [] [24] s r ∧ (∀ z : Int, 0 ≤ z → z < 1092 → r.2.2.1 24 z.toNat = s.2.2.1 24 (28 + z).toNat)) := by
  refine lp_inv (fun i q => q.1 = iI i ∧ fr [] [24] s q.2 ∧ (∀ z, 0 ≤ z → z < (i : Int) → q.2.2.2.1 24 z.toNat = s.2.2.1 24 (28 + z).toNat) ∧ (∀ z, (i : Int) ≤ z → q.2.2.2.1 24 z.toNat = s.2.2.1 24 z.toNat)) 1092 ?_ ?_ ⟨rfl, fr.refl, fun z z1 z2 => by omega, fun z _ => rfl⟩
  · rintro i ⟨k, u⟩ hi ⟨g1, g2, g3, g4⟩
    simp only at g1 g2 g3 g4
    subst g1
    have q1 := g4 (28 + i) (by omega)
    left
    refine ⟨(iI ((i : Int) + 1), aw u 24 (i : Int).toNat (s.2.2.1 24 (28 + (i : Int)).toNat)), ?_, rfl, g2.aw rfl, fun z z1 z2 => ?_, fun z z1 => ?_⟩
    · simp (disch := omega) only [fm_act_b11, iI_lit, iI_add, iI_sub, iI_mul, iI_neg, Option.bind_some, if_true, if_false, Int.reduceEq, Int.reduceLE, Int.reduceLT, Int.reduceAdd, Int.reduceSub, Int.reduceMul, Int.reduceNeg, Nat.reduceEqDiff, iI_le, iI_lt, iI_eq, ld_i, sto_w, q1]
      rw [if_neg (by omega)]
    · simp only [aw_get, true_and]
      by_cases hz : z = i
      · subst hz; rw [if_pos rfl]
      · rw [if_neg (by omega)]; exact g3 z z1 (by omega)
    · simp only [aw_get, true_and]
      rw [if_neg (by omega)]
      exact g4 z (by omega)
  · rintro ⟨k, u⟩ ⟨g1, g2, g3, g4⟩
    simp only at g1 g2 g3 g4
    subst g1
    refine ⟨u, ?_, g2, fun i i1 i2 => g3 i i1 (by omega)⟩
    simp (disch := omega) only [fm_act_b11, iI_lit, iI_add, iI_sub, iI_mul, iI_neg, Option.bind_some, if_true, if_false, Int.reduceEq, Int.reduceLE, Int.reduceLT, Int.reduceAdd, Int.reduceSub, Int.reduceMul, Int.reduceNeg, Nat.reduceEqDiff, iI_le, iI_lt, iI_eq]
    rfl
theorem m_act (h : MR μ s) (hw : wfM μ) : ∃ s', fm_act s = some s' ∧ MR (uAct μ) s' ∧ ar s' 23 28 (uX μ) ∧ fr [57, 58] [23, 24] s s' := by
  have ha := h.2.1
  have h57 : s.1 57 = iI (uS μ 57) := h.2.2.1.2.2.2.1
  have hW := h.2.2.2.2.2.2.2.1
  have hb := hw.2.2.2.2.1
  -- the tail, from a state whose kept ones are given
  have tail : ∀ (u : mS) (a : Int) (V : Int → Int → Int), fr [57, 58] [23, 24] s u → u.1 57 = iI a → 0 ≤ a → a < 40 → (∀ k i, 0 ≤ k → k < a → 0 ≤ i → i < 28 → u.2.2.1 24 (28 * k + i).toNat = iI (V k i)) → ∃ s', ((lp fm_act_b51 (0, u)).bind fun q51 => (pI 57 q51 ((q51.1 57) + 1)).bind fun s90 => (pI 58 s90 0).bind fun s95 => (fm_fill s95).bind fun p99 => some p99) = some s' ∧ fr [57, 58] [23, 24] s s' ∧ s'.1 57 = iI (a + 1) ∧ s'.1 58 = iI 0 ∧ ar s' 23 28 (uX μ) ∧ (∀ k i, 0 ≤ k → k < a + 1 → 0 ≤ i → i < 28 → s'.2.2.1 24 (28 * k + i).toNat = iI (if k = a then uX μ i else V k i)) := by
    intro u a V hfu h57u h1 h2 hV
    have hau := hfu.ar ha rfl (j := 22)
    obtain ⟨r, er, f1, k1, k2⟩ := m_keep hau h57u h1 h2
    have r57 : r.1 57 = iI a := by rw [f1.s 57 rfl]; exact h57u
    obtain ⟨w, ew, fw, aw1⟩ := m_fill (s := mSi (mSi r 57 (iI (a + 1))) 58 (iI 0)) (x := uX μ) (f1.ar hau rfl)
    refine ⟨w, ?_, ?_, ?_, ?_, aw1, ?_⟩
    · rw [er]
      simp only [Option.bind_some, pI, r57, i1, i0, iI_add]
      rw [ew]
      rfl
    · exact ((hfu.trans (f1.mono rfl rfl)).trans ((fr.refl.si rfl).si rfl)).trans (fw.mono rfl rfl)
    · rw [fw.s 57 rfl]; rfl
    · rw [fw.s 58 rfl]; rfl
    · intro k i c1 c2 c3 c4
      rw [fw.a 24 rfl]
      show r.2.2.1 24 _ = _
      by_cases hk : k = a
      · subst hk
        rw [if_pos rfl]
        exact k1 i c3 c4
      · rw [if_neg hk, k2 _ (by omega) (by omega)]
        exact hV k i c1 (by omega) c3 c4
  unfold fm_act
  rw [h57, show (40 : Int32) = iI 40 from iI_lit 40]
  by_cases h40 : uS μ 57 = 40
  · rw [if_pos (by rw [h40])]
    obtain ⟨r, er, f1, k1⟩ := m_shift s
    have r57 : r.1 57 = iI 40 := by rw [f1.s 57 rfl, h57, h40]
    obtain ⟨s', e', fs, b1, b2, b3, b4⟩ := tail (mSi r 57 (iI 39)) 39 (fun k => uW μ (k + 1)) ((f1.mono rfl rfl).trans (fr.refl.si rfl)) rfl (by omega) (by omega) (fun k i c1 c2 c3 c4 => by
      show r.2.2.1 24 _ = _
      rw [k1 _ (by omega) (by omega), show (28 : Int) + (28 * k + i) = 28 * (k + 1) + i by omega]
      exact hW (k + 1) i (by omega) (by omega) c3 c4)
    refine ⟨s', ?_, ?_, b3, fs⟩
    · rw [er]
      simp only [Option.bind_some, pI, r57, i1, iI_sub]
      exact e'
    · have := MR.acts h fs rfl (fs.ar ha rfl) b1 b2 (W' := (uAct μ).2.2.2.1) (fun k i c1 c2 c3 c4 => by
        rw [b4 k i c1 (by omega) c3 c4]
        show _ = iI ((if uS μ 57 = 40 then (if k = 39 then uX μ else uW μ (k + 1)) else (if k = uS μ 57 then uX μ else uW μ k)) i)
        rw [if_pos h40]
        split <;> rfl)
      have e : uAct μ = (uR μ, uX μ, upN (upN (uS μ) 57 (39 + 1)) 58 0, (uAct μ).2.2.2.1, uB μ, uA μ) := by
        unfold uAct
        rw [if_pos h40]
        rfl
      rw [e]
      exact this
  · rw [if_neg (by rw [iI_eq (by omega) (by omega) (by omega) (by omega)]; exact h40)]
    obtain ⟨s', e', fs, b1, b2, b3, b4⟩ := tail s (uS μ 57) (uW μ) fr.refl h57 hb.1 (by omega) (fun k i c1 c2 c3 c4 => hW k i c1 (by omega) c3 c4)
    refine ⟨s', e', ?_, b3, fs⟩
    have := MR.acts h fs rfl (fs.ar ha rfl) b1 b2 (W' := (uAct μ).2.2.2.1) (fun k i c1 c2 c3 c4 => by
      rw [b4 k i c1 (by omega) c3 c4]
      show _ = iI ((if uS μ 57 = 40 then (if k = 39 then uX μ else uW μ (k + 1)) else (if k = uS μ 57 then uX μ else uW μ k)) i)
      rw [if_neg h40]
      split <;> rfl)
    have e : uAct μ = (uR μ, uX μ, upN (upN (uS μ) 57 (uS μ 57 + 1)) 58 0, (uAct μ).2.2.2.1, uB μ, uA μ) := by
      unfold uAct
      rw [if_neg h40]
    rw [e]
    exact this
theorem m_exchange {k : Int} {x y : Int → Int} (ha : ar s 22 28 x) (hy : ∀ i, 0 ≤ i → i < 28 → s.2.2.1 24 (28 * k + i).toNat = iI (y i)) (h1 : 0 ≤ k) (h2 : k < 40) : ∃ s', fm_exchange s (iI (28 * k)) = some s' ∧ fr [] [22, 24] s s' ∧ ar s' 22 28 y ∧ (∀ i, 0 ≤ i → i < 28 → s'.2.2.1 24 (28 * k + i).toNat = iI (x i)) ∧ (∀ z, 0 ≤ z → (z < 28 * k ∨ 28 * k + 28 ≤ z) → s'.2.2.1 24 z.toNat = s.2.2.1 24 z.toNat) := by
  have : ∃ r, lp (fm_exchange_b2 (iI (28 * k))) (0, s) = some r ∧ (fr [] [22, 24] s r ∧ ar r 22 28 y ∧ (∀ i, 0 ≤ i → i < 28 → r.2.2.1 24 (28 * k + i).toNat = iI (x i)) ∧ (∀ z, 0 ≤ z → (z < 28 * k ∨ 28 * k + 28 ≤ z) → r.2.2.1 24 z.toNat = s.2.2.1 24 z.toNat)) := by
    refine lp_inv (fun i q => q.1 = iI i ∧ fr [] [22, 24] s q.2 ∧ (∀ z, 0 ≤ z → z < (i : Int) → q.2.2.2.1 22 z.toNat = iI (y z) ∧ q.2.2.2.1 24 (28 * k + z).toNat = iI (x z)) ∧ (∀ z, (i : Int) ≤ z → z < 28 → q.2.2.2.1 22 z.toNat = iI (x z) ∧ q.2.2.2.1 24 (28 * k + z).toNat = iI (y z)) ∧ (∀ z, 0 ≤ z → (z < 28 * k ∨ 28 * k + 28 ≤ z) → q.2.2.2.1 24 z.toNat = s.2.2.1 24 z.toNat)) 28 ?_ ?_ ⟨rfl, fr.refl, fun z z1 z2 => by omega, fun z z1 z2 => ⟨ha z (by omega) z2, hy z (by omega) z2⟩, fun z _ _ => rfl⟩
    · rintro i ⟨j, u⟩ hi ⟨g1, g2, g3, g4, g5⟩
      simp only at g1 g2 g3 g4 g5
      subst g1
      obtain ⟨q1, q2⟩ := g4 i (by omega) (by omega)
      left
      refine ⟨(iI ((i : Int) + 1), aw (aw u 24 (28 * k + i).toNat (iI (x i))) 22 (i : Int).toNat (iI (y i))), ?_, rfl, (g2.aw rfl).aw rfl, fun z z1 z2 => ?_, fun z z1 z2 => ?_, fun z z1 z2 => ?_⟩
      · simp (disch := omega) only [fm_exchange_b2, iI_lit, iI_add, iI_sub, iI_mul, iI_neg, Option.bind_some, if_true, if_false, Int.reduceEq, Int.reduceLE, Int.reduceLT, Int.reduceAdd, Int.reduceSub, Int.reduceMul, Int.reduceNeg, Nat.reduceEqDiff, iI_le, iI_lt, iI_eq, ld_i, sto_w, q1, q2]
        rw [if_neg (by omega)]
      · simp only [aw_get, true_and, Nat.reduceEqDiff, false_and, if_false]
        by_cases hz : z = i
        · subst hz; simp
        · rw [if_neg (by omega), if_neg (by omega)]; exact g3 z z1 (by omega)
      · simp only [aw_get, true_and, Nat.reduceEqDiff, false_and, if_false]
        rw [if_neg (by omega), if_neg (by omega)]
        exact g4 z (by omega) z2
      · simp only [aw_get, true_and, Nat.reduceEqDiff, false_and, if_false]
        rw [if_neg (by omega)]
        exact g5 z z1 z2
    · rintro ⟨j, u⟩ ⟨g1, g2, g3, g4, g5⟩
      simp only at g1 g2 g3 g4 g5
      subst g1
      refine ⟨u, ?_, g2, fun z z1 z2 => (g3 z z1 (by omega)).1, fun i i1 i2 => (g3 i i1 (by omega)).2, g5⟩
      simp (disch := omega) only [fm_exchange_b2, iI_lit, iI_add, iI_sub, iI_mul, iI_neg, Option.bind_some, if_true, if_false, Int.reduceEq, Int.reduceLE, Int.reduceLT, Int.reduceAdd, Int.reduceSub, Int.reduceMul, Int.reduceNeg, Nat.reduceEqDiff, iI_le, iI_lt, iI_eq]
      rfl
  obtain ⟨r, e, g⟩ := this
  exact ⟨r, by unfold fm_exchange; rw [e]; rfl, g⟩
theorem m_undo (h : MR μ s) (hw : wfM μ) : ∃ s', fm_undo s = some (iI (if uS μ 57 = 0 then 0 else 1), s') ∧ MR (if uS μ 57 = 0 then μ else uEx μ (uS μ 57 - 1) (uS μ 57 - 1) (uS μ 58 + 1)) s' := by
  have h57 : s.1 57 = iI (uS μ 57) := h.2.2.1.2.2.2.1
  have h58 : s.1 58 = iI (uS μ 58) := h.2.2.1.2.2.2.2.1
  have hW := h.2.2.2.2.2.2.2.1
  have hb := hw.2.2.2.2.1
  by_cases h0 : uS μ 57 = 0
  · refine ⟨s, ?_, by rw [if_pos h0]; exact h⟩
    simp (disch := omega) only [fm_undo, iI_lit, iI_add, iI_sub, iI_mul, iI_neg, Option.bind_some, if_true, if_false, Int.reduceEq, Int.reduceLE, Int.reduceLT, Int.reduceAdd, Int.reduceSub, Int.reduceMul, Int.reduceNeg, Nat.reduceEqDiff, iI_le, iI_lt, iI_eq, h57, if_pos h0]
  · obtain ⟨s', e, f, a1, a2, a3⟩ := m_exchange (s := mSi (mSi s 57 (iI (uS μ 57 - 1))) 58 (iI (uS μ 58 + 1))) (k := uS μ 57 - 1) (x := uX μ) (y := uW μ (uS μ 57 - 1)) h.2.1 (fun i i1 i2 => hW _ i (by omega) (by omega) i1 i2) (by omega) (by omega)
    have fs : fr [57, 58] [22, 24] s s' := ((fr.refl.si rfl).si rfl).trans (f.mono rfl rfl)
    refine ⟨s', ?_, ?_⟩
    · simp (disch := omega) only [fm_undo, iI_lit, iI_add, iI_sub, iI_mul, iI_neg, Option.bind_some, if_true, if_false, Int.reduceEq, Int.reduceLE, Int.reduceLT, Int.reduceAdd, Int.reduceSub, Int.reduceMul, Int.reduceNeg, Nat.reduceEqDiff, iI_le, iI_lt, iI_eq, h57, h58, if_neg h0, pI, si_get, Nat.reduceEqDiff]
      rw [e]
      rfl
    · rw [if_neg h0]
      refine MR.acts h fs rfl a1 (by rw [f.s 57 rfl]; rfl) (by rw [f.s 58 rfl]; rfl) (fun j i c1 c2 c3 c4 => ?_)
      by_cases hj : j = uS μ 57 - 1
      · subst hj
        rw [if_pos rfl]
        exact a2 i c3 c4
      · rw [if_neg hj, a3 _ (by omega) (by omega)]
        exact hW j i c1 (by omega) c3 c4
theorem m_redo (h : MR μ s) (hw : wfM μ) : ∃ s', fm_redo s = some (iI (if uS μ 58 = 0 then 0 else 1), s') ∧ MR (if uS μ 58 = 0 then μ else uEx μ (uS μ 57) (uS μ 57 + 1) (uS μ 58 - 1)) s' := by
  have h57 : s.1 57 = iI (uS μ 57) := h.2.2.1.2.2.2.1
  have h58 : s.1 58 = iI (uS μ 58) := h.2.2.1.2.2.2.2.1
  have hW := h.2.2.2.2.2.2.2.1
  have hb := hw.2.2.2.2.1
  by_cases h0 : uS μ 58 = 0
  · refine ⟨s, ?_, by rw [if_pos h0]; exact h⟩
    simp (disch := omega) only [fm_redo, iI_lit, iI_add, iI_sub, iI_mul, iI_neg, Option.bind_some, if_true, if_false, Int.reduceEq, Int.reduceLE, Int.reduceLT, Int.reduceAdd, Int.reduceSub, Int.reduceMul, Int.reduceNeg, Nat.reduceEqDiff, iI_le, iI_lt, iI_eq, h58, if_pos h0]
  · obtain ⟨s', e, f, a1, a2, a3⟩ := m_exchange (s := s) (k := uS μ 57) (x := uX μ) (y := uW μ (uS μ 57)) h.2.1 (fun i i1 i2 => hW _ i (by omega) (by omega) i1 i2) (by omega) (by omega)
    have g57 : s'.1 57 = iI (uS μ 57) := by rw [f.s 57 rfl]; exact h57
    have g58 : s'.1 58 = iI (uS μ 58) := by rw [f.s 58 rfl]; exact h58
    have fs : fr [57, 58] [22, 24] s (mSi (mSi s' 57 (iI (uS μ 57 + 1))) 58 (iI (uS μ 58 - 1))) := (f.mono rfl rfl).trans ((fr.refl.si rfl).si rfl)
    refine ⟨mSi (mSi s' 57 (iI (uS μ 57 + 1))) 58 (iI (uS μ 58 - 1)), ?_, ?_⟩
    · simp (disch := omega) only [fm_redo, iI_lit, iI_add, iI_sub, iI_mul, iI_neg, Option.bind_some, if_true, if_false, Int.reduceEq, Int.reduceLE, Int.reduceLT, Int.reduceAdd, Int.reduceSub, Int.reduceMul, Int.reduceNeg, Nat.reduceEqDiff, iI_le, iI_lt, iI_eq, h57, h58, if_neg h0]
      rw [e]
      simp only [Option.bind_some, pI, g57, g58, i1, iI_add, iI_sub, si_get, Nat.reduceEqDiff, if_false]
    · rw [if_neg h0]
      refine MR.acts h fs rfl a1 rfl rfl (fun j i c1 c2 c3 c4 => ?_)
      show s'.2.2.1 24 _ = _
      by_cases hj : j = uS μ 57
      · subst hj
        rw [if_pos rfl]
        exact a2 i c3 c4
      · rw [if_neg hj, a3 _ (by omega) (by omega)]
        exact hW j i c1 (by omega) c3 c4
end B5

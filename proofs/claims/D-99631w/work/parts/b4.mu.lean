/-! LAYER 3: the whole mathematical state; the model holds it -/
set_option maxRecDepth 100000
/-- the river; the boards now; numbers by the model's field (1 taped, 2 fault, 3 its place, 57 acts, 58 undone, 61 laid, 75 sights, 76 time); what was kept; the boxes; rows by the model's array (1 tape, 26 what lies, 34..39 sights, 43 which boxes) -/
abbrev Mu : Type := Rv × (Int → Int) × (Nat → Int) × (Int → Int → Int) × (Int → Int → Int) × (Nat → Int → Int)
abbrev uR (μ : Mu) : Rv := μ.1
abbrev uX (μ : Mu) : Int → Int := μ.2.1
abbrev uS (μ : Mu) : Nat → Int := μ.2.2.1
abbrev uW (μ : Mu) : Int → Int → Int := μ.2.2.2.1
abbrev uB (μ : Mu) : Int → Int → Int := μ.2.2.2.2.1
abbrev uA (μ : Mu) : Nat → Int → Int := μ.2.2.2.2.2
def sgJ : List Nat := [34, 35, 36, 37, 38, 39]
def MR (μ : Mu) (s : mS) : Prop := okR (uR μ) s ∧ ar s 22 28 (uX μ) ∧ (s.1 1 = iI (uS μ 1) ∧ s.1 2 = iI (uS μ 2) ∧ s.1 3 = iI (uS μ 3) ∧ s.1 57 = iI (uS μ 57) ∧ s.1 58 = iI (uS μ 58) ∧ s.1 61 = iI (uS μ 61) ∧ s.1 75 = iI (uS μ 75) ∧ s.1 76 = iI (uS μ 76)) ∧ ar s 1 1600 (uA μ 1) ∧ ar s 26 (uS μ 61) (uA μ 26) ∧ (∀ j ∈ sgJ, ar s j (uS μ 75) (uA μ j)) ∧ ar s 43 3 (uA μ 43) ∧ (∀ k i, 0 ≤ k → k < uS μ 57 + uS μ 58 → 0 ≤ i → i < 28 → s.2.2.1 24 (28 * k + i).toNat = iI (uW μ k i)) ∧ (∀ k i, 0 ≤ k → k < 3 → uA μ 43 k = 1 → 0 ≤ i → i < 28 → s.2.2.1 44 (28 * k + i).toNat = iI (uB μ k i))
def wfM (μ : Mu) : Prop := wfR (uR μ) ∧ wfS (uR μ) (uX μ) ∧ (0 ≤ uS μ 1 ∧ uS μ 1 ≤ 1600) ∧ (∀ z, 0 ≤ uA μ 1 z ∧ uA μ 1 z ≤ 255) ∧ (0 ≤ uS μ 57 ∧ 0 ≤ uS μ 58 ∧ uS μ 57 + uS μ 58 ≤ 40) ∧ (∀ k, 0 ≤ k → k < uS μ 57 + uS μ 58 → wfS (uR μ) (uW μ k)) ∧ (0 ≤ uS μ 61 ∧ uS μ 61 ≤ 7) ∧ (0 ≤ uS μ 75 ∧ uS μ 75 ≤ 30) ∧ (0 ≤ uS μ 76 ∧ uS μ 76 ≤ 100000) ∧ (∀ i, 0 ≤ i → i < uS μ 75 → (uA μ 34 i = 0 ∨ uA μ 34 i = 1) ∧ (1 ≤ uA μ 35 i ∧ uA μ 35 i ≤ rR (uR μ)) ∧ (0 ≤ uA μ 36 i ∧ uA μ 36 i ≤ 99) ∧ (0 ≤ uA μ 37 i ∧ uA μ 37 i ≤ 100000) ∧ (-1 ≤ uA μ 38 i ∧ uA μ 38 i ≤ 100000) ∧ (uA μ 39 i = 0 ∨ uA μ 39 i = 1)) ∧ (∀ k, uA μ 43 k = 0 ∨ uA μ 43 k = 1) ∧ (∀ k, 0 ≤ k → k < 3 → uA μ 43 k = 1 → wfS (uR μ) (uB μ k))
/-- only scratch has changed -/
def pK : List Nat := [46, 47, 48, 49, 50, 21, 18, 1, 2, 3, 57, 58, 61, 75, 76]
def pJ : List Nat := [16, 17, 18, 19, 20, 21, 5, 6, 22, 1, 26, 34, 35, 36, 37, 38, 39, 43, 24, 44]
theorem off_all {K L : List Nat} (h : K.all (fun k => !(L.contains k)) = true) {k : Nat} (hk : L.contains k = true) : K.contains k = false := by
  apply Classical.byContradiction
  intro hc
  have hc : K.contains k = true := by simpa using hc
  have := List.all_eq_true.mp h k (by simpa using hc)
  rw [hk] at this
  cases this
theorem all_sub {K L L' : List Nat} (h : K.all (fun k => !(L.contains k)) = true) (hs : L'.all (fun k => L.contains k) = true) : K.all (fun k => !(L'.contains k)) = true := by
  rw [List.all_eq_true] at *
  intro k hk
  have h1 := h k hk
  cases hc : L'.contains k with
  | false => rfl
  | true =>
    have := hs k (by simpa using hc)
    rw [this] at h1
    cases h1
theorem MR.frm {μ : Mu} {s s1 : mS} {K J : List Nat} (h : MR μ s) (f : fr K J s s1) (hK : K.all (fun k => !(pK.contains k)) = true) (hJ : J.all (fun k => !(pJ.contains k)) = true) : MR μ s1 := by
  obtain ⟨h1, h2, ⟨a1, a2, a3, a4, a5, a6, a7, a8⟩, h4, h5, h6, h7, h8, h9⟩ := h
  have k : ∀ k, pK.contains k = true → s1.1 k = s.1 k := fun k hk => f.s k (off_all hK hk)
  have j : ∀ k, pJ.contains k = true → s1.2.2.1 k = s.2.2.1 k := fun k hk => f.a k (off_all hJ hk)
  refine ⟨h1.fr f (all_sub hK rfl) (all_sub hJ rfl), f.ar h2 (off_all hJ rfl), ⟨?_, ?_, ?_, ?_, ?_, ?_, ?_, ?_⟩, f.ar h4 (off_all hJ rfl), f.ar h5 (off_all hJ rfl), fun i hi => f.ar (h6 i hi) (off_all hJ ?_), f.ar h7 (off_all hJ rfl), ?_, ?_⟩
  · rw [k 1 rfl]; exact a1
  · rw [k 2 rfl]; exact a2
  · rw [k 3 rfl]; exact a3
  · rw [k 57 rfl]; exact a4
  · rw [k 58 rfl]; exact a5
  · rw [k 61 rfl]; exact a6
  · rw [k 75 rfl]; exact a7
  · rw [k 76 rfl]; exact a8
  · simp only [sgJ, List.mem_cons, List.not_mem_nil, or_false] at hi
    rcases hi with rfl | rfl | rfl | rfl | rfl | rfl <;> rfl
  · rw [j 24 rfl]; exact h8
  · rw [j 44 rfl]; exact h9
def upN (f : Nat → Int) (k : Nat) (v : Int) : Nat → Int := fun i => if i = k then v else f i
def upR (f : Nat → Int → Int) (k : Nat) (g : Int → Int) : Nat → Int → Int := fun i => if i = k then g else f i
/-- something else is laid: n of it -/
def uLay (μ : Mu) (n : Int) (g : Int → Int) : Mu := (uR μ, uX μ, upN (uS μ) 61 n, uW μ, uB μ, upR (uA μ) 26 g)
theorem MR.lay {μ : Mu} {s s1 : mS} {J : List Nat} {n : Int} {g : Int → Int} (h : MR μ s) (f : fr [61] J s s1) (hJ : J.all (fun k => !([16, 17, 18, 19, 20, 21, 5, 6, 22, 1, 34, 35, 36, 37, 38, 39, 43, 24, 44].contains k)) = true) (e1 : s1.1 61 = iI n) (e2 : ar s1 26 n g) : MR (uLay μ n g) s1 := by
  obtain ⟨h1, h2, ⟨a1, a2, a3, a4, a5, a6, a7, a8⟩, h4, h5, h6, h7, h8, h9⟩ := h
  have j : ∀ k, [16, 17, 18, 19, 20, 21, 5, 6, 22, 1, 34, 35, 36, 37, 38, 39, 43, 24, 44].contains k = true → s1.2.2.1 k = s.2.2.1 k := fun k hk => f.a k (off_all hJ hk)
  refine ⟨h1.fr f rfl (all_sub hJ rfl), f.ar h2 (off_all hJ rfl), ⟨?_, ?_, ?_, ?_, ?_, e1, ?_, ?_⟩, f.ar h4 (off_all hJ rfl), e2, fun i hi => ?_, f.ar h7 (off_all hJ rfl), ?_, ?_⟩
  · rw [f.s 1 rfl]; exact a1
  · rw [f.s 2 rfl]; exact a2
  · rw [f.s 3 rfl]; exact a3
  · rw [f.s 57 rfl]; exact a4
  · rw [f.s 58 rfl]; exact a5
  · rw [f.s 75 rfl]; exact a7
  · rw [f.s 76 rfl]; exact a8
  · have hi2 := hi
    simp only [sgJ, List.mem_cons, List.not_mem_nil, or_false] at hi
    rcases hi with rfl | rfl | rfl | rfl | rfl | rfl <;> exact f.ar (h6 _ hi2) (off_all hJ rfl)
  · rw [j 24 rfl]; exact h8
  · rw [j 44 rfl]; exact h9
theorem wfM.lay {μ : Mu} {n : Int} {g : Int → Int} (h : wfM μ) (h1 : 0 ≤ n) (h2 : n ≤ 7) : wfM (uLay μ n g) := by
  obtain ⟨a1, a2, a3, a4, a5, a6, a7, a8, a9, a10, a11, a12⟩ := h
  exact ⟨a1, a2, a3, a4, a5, a6, ⟨h1, h2⟩, a8, a9, a10, a11, a12⟩
/-! small questions -/
section B4
variable {ρ : Rv} {s : mS} {x : Int → Int}
theorem near_bit (hw : wfR ρ) (x : Int → Int) (w : Int) {k : Nat} (hk : (k : Int) < rL ρ) : bit (atS ρ x w) k = if x (20 + k) = w then 1 else 0 := by
  unfold atS
  rw [setP_bit _ _ _ (by omega)]
  simp only [decide_eq_true_eq]
theorem m_law (hR : okR ρ s) (hw : wfR ρ) (ha : ar s 22 28 x) (hx : wfS ρ x) {n : Int} (h1 : -2147483648 ≤ n) (h2 : n < 2147483648) : ∃ s', fm_law s (iI n) = some (iI (if 0 ≤ n ∧ n ≤ 99 then lawN ρ x n (rL ρ).toNat else -1), s') ∧ fr [] [23] s s' := by
  unfold fm_law
  simp only [iI_lit, iI_add, iI_sub, iI_mul, iI_neg, Option.bind_some, if_true, if_false, Int.reduceEq, Int.reduceLE, Int.reduceLT, Int.reduceAdd, Int.reduceSub, Int.reduceMul, Int.reduceNeg, Nat.reduceEqDiff]
  rw [m_isIn h1 h2 (by omega) (by omega) (by omega) (by omega)]
  by_cases h : 0 ≤ n ∧ n ≤ 99
  · obtain ⟨s1, e1, f1⟩ := m_nearLoads hR hw ha hx
    have hR1 := hR.fr f1 rfl rfl
    have hab := atS_b hw x (-1)
    have hl := hw.2.2.2.1
    have hlb := hw.2.2.2.2.2.2.2.2.2.2.1
    have hlw := hR1.2.2.2.2.2.2.2.2.2.2.2.1
    have : lp (fm_law_b22 s1 (iI n) (iI (atS ρ x (-1)))) (iI 0, iI 0) = some (iI (lawN ρ x n (rL ρ).toNat)) := by
      refine lp_seq (fun i => (iI (lawN ρ x n i), iI i)) (rL ρ).toNat (fun i hi => ?_) ?_
      · have h3 := hlw i (by omega) (by omega)
        have h4 := hlb i (by omega) (by omega)
        have h5 := near_bit hw x (-1) (k := i) (by omega)
        simp (disch := omega) only [fm_law_b22, hR1.2.2.2.1, iI_lit, iI_add, iI_sub, iI_mul, iI_neg, Option.bind_some, if_true, if_false, Int.reduceEq, Int.reduceLE, Int.reduceLT, Int.reduceAdd, Int.reduceSub, Int.reduceMul, Int.reduceNeg, Nat.reduceEqDiff, iI_le, iI_lt, iI_eq, ld_i, sto_i, bit_i, h3, h5, m_truth, lawN]
        rw [if_neg (by omega)]
        by_cases c1 : x (20 + i) = -1
        · by_cases c2 : n < rLW ρ i
          · simp only [if_pos c1, if_pos c2, if_true, if_neg (show ¬ (x (20 + i) = -1 ∧ rLW ρ i ≤ n) by omega)]
            rfl
          · simp only [if_pos c1, if_neg c2, if_true, if_pos (show x (20 + i) = -1 ∧ rLW ρ i ≤ n by omega)]
            rfl
        · simp only [if_neg c1, if_neg (show ¬ (x (20 + i) = -1 ∧ rLW ρ i ≤ n) by omega), show ¬ (0 : Int) = 1 by omega, if_false]
          rfl
      · simp (disch := omega) only [fm_law_b22, hR1.2.2.2.1, iI_lit, iI_add, iI_sub, iI_mul, iI_neg, Option.bind_some, if_true, if_false, Int.reduceEq, Int.reduceLE, Int.reduceLT, Int.reduceAdd, Int.reduceSub, Int.reduceMul, Int.reduceNeg, Nat.reduceEqDiff, iI_le, iI_lt, iI_eq]
        rw [if_pos (by omega)]
    refine ⟨s1, ?_, f1⟩
    simp only [if_pos h, iI_lit, iI_add, iI_sub, iI_mul, iI_neg, Option.bind_some, if_true, if_false, Int.reduceEq, Int.reduceLE, Int.reduceLT, Int.reduceAdd, Int.reduceSub, Int.reduceMul, Int.reduceNeg, Nat.reduceEqDiff, show ¬ iI 1 = iI 0 by decide, e1]
    rw [this]
    rfl
  · refine ⟨s, ?_, fr.refl⟩
    simp only [if_neg h, iI_lit, iI_add, iI_sub, iI_mul, iI_neg, Option.bind_some, if_true, if_false, Int.reduceEq, Int.reduceLE, Int.reduceLT, Int.reduceAdd, Int.reduceSub, Int.reduceMul, Int.reduceNeg, Nat.reduceEqDiff]
theorem m_isLoad (hR : okR ρ s) (hw : wfR ρ) {b : Int} (h1 : -2147483648 ≤ b) (h2 : b < 2147483648) : fm_isLoad s (iI b) = some (if 0 ≤ b ∧ b < rL ρ then 1 else 0) := by
  have hb := hw.2.2.2.1
  unfold fm_isLoad
  simp only [hR.2.2.2.1, i0, i1, iI_sub]
  rw [m_isIn h1 h2 (by omega) (by omega) (by omega) (by omega)]
  simp only [Option.bind_some]
  by_cases h : 0 ≤ b ∧ b < rL ρ
  · rw [if_pos (show 0 ≤ b ∧ b ≤ rL ρ - 1 by omega), if_pos h]; rfl
  · rw [if_neg (show ¬ (0 ≤ b ∧ b ≤ rL ρ - 1) by omega), if_neg h]; rfl
def boardV (ρ : Rv) (x : Int → Int) (b what : Int) : Int := if 0 ≤ b ∧ b < rB ρ then (if what = 0 then x b else if what = 1 then x (4 + b) else if what = 2 then x (8 + b) else if what = 3 then x (12 + b) else if what = 4 then x (16 + b) else if what = 5 then rBW ρ b else if what = 6 then rBB ρ b else if what = 7 then burd ρ x b else if what = 8 then atS ρ x b else -1) else -1
theorem m_board (hR : okR ρ s) (hw : wfR ρ) (ha : ar s 22 28 x) (hx : wfS ρ x) {b what : Int} (h1 : -2147483648 ≤ b) (h2 : b < 2147483648) (h3 : -2147483648 ≤ what) (h4 : what < 2147483648) : ∃ s', fm_board s (iI b) (iI what) = some (iI (boardV ρ x b what), s') ∧ fr [] [23] s s' := by
  unfold fm_board boardV
  rw [m_isBoard hR hw h1 h2]
  by_cases h : 0 ≤ b ∧ b < rB ρ
  · obtain ⟨h1, h2⟩ := h
    have hb := hw.2.2.1
    obtain ⟨s1, e1, f1, a1⟩ := m_fill ha
    have hR1 := hR.fr f1 rfl rfl
    have q0 := a1 b (by omega) (by omega)
    have q4 := a1 (4 + b) (by omega) (by omega)
    have q8 := a1 (8 + b) (by omega) (by omega)
    have q12 := a1 (12 + b) (by omega) (by omega)
    have q16 := a1 (16 + b) (by omega) (by omega)
    have w18 : s1.2.2.1 18 b.toNat = iI (rBW ρ b) := hR1.2.2.2.2.2.2.2.2.1 b h1 h2
    have w20 : s1.2.2.1 20 b.toNat = iI (rBB ρ b) := hR1.2.2.2.2.2.2.2.2.2.2.1 b h1 h2
    have e2 := m_burdenOf hR1 hw a1 hx (b := b) (by omega) (by omega)
    have e3 := m_loadsAt hR1 hw a1 hx (b := b) (by omega) (by omega)
    refine ⟨s1, ?_, f1⟩
    rw [e1]
    simp only [if_pos (And.intro h1 h2), Option.bind_some, i0, i1, show ¬ iI 1 = iI 0 by decide, if_false]
    have hh : ∀ k : Int, 0 ≤ k → k < 100 → (iI what = iI k ↔ what = k) := fun k k1 k2 => iI_eq h3 h4 (by omega) (by omega)
    by_cases c0 : what = 0
    · simp (disch := omega) only [iI_lit, iI_add, iI_sub, iI_mul, iI_neg, Option.bind_some, if_true, if_false, Int.reduceEq, Int.reduceLE, Int.reduceLT, Int.reduceAdd, Int.reduceSub, Int.reduceMul, Int.reduceNeg, Nat.reduceEqDiff, iI_le, iI_lt, iI_eq, ld_i, sto_i, hh, if_pos c0, q0]
    by_cases c1 : what = 1
    · simp (disch := omega) only [iI_lit, iI_add, iI_sub, iI_mul, iI_neg, Option.bind_some, if_true, if_false, Int.reduceEq, Int.reduceLE, Int.reduceLT, Int.reduceAdd, Int.reduceSub, Int.reduceMul, Int.reduceNeg, Nat.reduceEqDiff, iI_le, iI_lt, iI_eq, ld_i, sto_i, hh, if_neg c0, if_pos c1, q4]
    by_cases c2 : what = 2
    · simp (disch := omega) only [iI_lit, iI_add, iI_sub, iI_mul, iI_neg, Option.bind_some, if_true, if_false, Int.reduceEq, Int.reduceLE, Int.reduceLT, Int.reduceAdd, Int.reduceSub, Int.reduceMul, Int.reduceNeg, Nat.reduceEqDiff, iI_le, iI_lt, iI_eq, ld_i, sto_i, hh, if_neg c0, if_neg c1, if_pos c2, q8]
    by_cases c3 : what = 3
    · simp (disch := omega) only [iI_lit, iI_add, iI_sub, iI_mul, iI_neg, Option.bind_some, if_true, if_false, Int.reduceEq, Int.reduceLE, Int.reduceLT, Int.reduceAdd, Int.reduceSub, Int.reduceMul, Int.reduceNeg, Nat.reduceEqDiff, iI_le, iI_lt, iI_eq, ld_i, sto_i, hh, if_neg c0, if_neg c1, if_neg c2, if_pos c3, q12]
    by_cases c4 : what = 4
    · simp (disch := omega) only [iI_lit, iI_add, iI_sub, iI_mul, iI_neg, Option.bind_some, if_true, if_false, Int.reduceEq, Int.reduceLE, Int.reduceLT, Int.reduceAdd, Int.reduceSub, Int.reduceMul, Int.reduceNeg, Nat.reduceEqDiff, iI_le, iI_lt, iI_eq, ld_i, sto_i, hh, if_neg c0, if_neg c1, if_neg c2, if_neg c3, if_pos c4, q16]
    by_cases c5 : what = 5
    · simp (disch := omega) only [iI_lit, iI_add, iI_sub, iI_mul, iI_neg, Option.bind_some, if_true, if_false, Int.reduceEq, Int.reduceLE, Int.reduceLT, Int.reduceAdd, Int.reduceSub, Int.reduceMul, Int.reduceNeg, Nat.reduceEqDiff, iI_le, iI_lt, iI_eq, ld_i, sto_i, hh, if_neg c0, if_neg c1, if_neg c2, if_neg c3, if_neg c4, if_pos c5, w18]
    by_cases c6 : what = 6
    · simp (disch := omega) only [iI_lit, iI_add, iI_sub, iI_mul, iI_neg, Option.bind_some, if_true, if_false, Int.reduceEq, Int.reduceLE, Int.reduceLT, Int.reduceAdd, Int.reduceSub, Int.reduceMul, Int.reduceNeg, Nat.reduceEqDiff, iI_le, iI_lt, iI_eq, ld_i, sto_i, hh, if_neg c0, if_neg c1, if_neg c2, if_neg c3, if_neg c4, if_neg c5, if_pos c6, w20]
    by_cases c7 : what = 7
    · simp (disch := omega) only [iI_lit, iI_add, iI_sub, iI_mul, iI_neg, Option.bind_some, if_true, if_false, Int.reduceEq, Int.reduceLE, Int.reduceLT, Int.reduceAdd, Int.reduceSub, Int.reduceMul, Int.reduceNeg, Nat.reduceEqDiff, iI_le, iI_lt, iI_eq, ld_i, sto_i, hh, if_neg c0, if_neg c1, if_neg c2, if_neg c3, if_neg c4, if_neg c5, if_neg c6, if_pos c7, e2]
    by_cases c8 : what = 8
    · simp (disch := omega) only [iI_lit, iI_add, iI_sub, iI_mul, iI_neg, Option.bind_some, if_true, if_false, Int.reduceEq, Int.reduceLE, Int.reduceLT, Int.reduceAdd, Int.reduceSub, Int.reduceMul, Int.reduceNeg, Nat.reduceEqDiff, iI_le, iI_lt, iI_eq, ld_i, sto_i, hh, if_neg c0, if_neg c1, if_neg c2, if_neg c3, if_neg c4, if_neg c5, if_neg c6, if_neg c7, if_pos c8, e3]
    simp (disch := omega) only [iI_lit, iI_add, iI_sub, iI_mul, iI_neg, Option.bind_some, if_true, if_false, Int.reduceEq, Int.reduceLE, Int.reduceLT, Int.reduceAdd, Int.reduceSub, Int.reduceMul, Int.reduceNeg, Nat.reduceEqDiff, hh, if_neg c0, if_neg c1, if_neg c2, if_neg c3, if_neg c4, if_neg c5, if_neg c6, if_neg c7, if_neg c8]
  · refine ⟨s, ?_, fr.refl⟩
    simp only [if_neg h, iI_lit, iI_add, iI_sub, iI_mul, iI_neg, Option.bind_some, if_true, if_false, Int.reduceEq, Int.reduceLE, Int.reduceLT, Int.reduceAdd, Int.reduceSub, Int.reduceMul, Int.reduceNeg, Nat.reduceEqDiff]
def loadV (ρ : Rv) (x : Int → Int) (l what : Int) : Int := if 0 ≤ l ∧ l < rL ρ then (if what = 0 then rLW ρ l else if what = 1 then x (20 + l) else -3) else -3
theorem m_load (hR : okR ρ s) (hw : wfR ρ) (ha : ar s 22 28 x) {l what : Int} (h1 : -2147483648 ≤ l) (h2 : l < 2147483648) (h3 : -2147483648 ≤ what) (h4 : what < 2147483648) : fm_load s (iI l) (iI what) = some (iI (loadV ρ x l what)) := by
  unfold fm_load loadV
  rw [m_isLoad hR hw h1 h2]
  by_cases h : 0 ≤ l ∧ l < rL ρ
  · have hl := hw.2.2.2.1
    have q1 := hR.2.2.2.2.2.2.2.2.2.2.2.1 l h.1 h.2
    have q2 := ha (20 + l) (by omega) (by omega)
    simp (disch := omega) only [if_pos h, iI_lit, iI_add, iI_sub, iI_mul, iI_neg, Option.bind_some, if_true, if_false, Int.reduceEq, Int.reduceLE, Int.reduceLT, Int.reduceAdd, Int.reduceSub, Int.reduceMul, Int.reduceNeg, Nat.reduceEqDiff, iI_le, iI_lt, iI_eq, ld_i, sto_i, show ¬ iI 1 = iI 0 by decide, m_isIn, q1, q2]
    by_cases c : 0 ≤ what ∧ what ≤ 1
    · simp only [if_pos c, iI_lit, iI_add, iI_sub, iI_mul, iI_neg, Option.bind_some, if_true, if_false, Int.reduceEq, Int.reduceLE, Int.reduceLT, Int.reduceAdd, Int.reduceSub, Int.reduceMul, Int.reduceNeg, Nat.reduceEqDiff, show ¬ iI 1 = iI 0 by decide]
      by_cases c2 : what = 0
      · simp only [if_pos c2]
      · simp only [if_neg c2, if_pos (show what = 1 by omega)]
    · simp only [if_neg c, iI_lit, iI_add, iI_sub, iI_mul, iI_neg, Option.bind_some, if_true, if_false, Int.reduceEq, Int.reduceLE, Int.reduceLT, Int.reduceAdd, Int.reduceSub, Int.reduceMul, Int.reduceNeg, Nat.reduceEqDiff, if_neg (show ¬ what = 0 by omega), if_neg (show ¬ what = 1 by omega)]
  · simp only [if_neg h, iI_lit, iI_add, iI_sub, iI_mul, iI_neg, Option.bind_some, if_true, if_false, Int.reduceEq, Int.reduceLE, Int.reduceLT, Int.reduceAdd, Int.reduceSub, Int.reduceMul, Int.reduceNeg, Nat.reduceEqDiff]
def spotV (ρ : Rv) (c r what : Int) : Int := if (0 ≤ c ∧ c ≤ rC ρ - 1) ∧ 0 ≤ r ∧ r ≤ rR ρ then (if what = 0 then rCu ρ (8 * r + c) else if what = 1 then rIr ρ (8 * r + c) else -1) else -1
theorem m_spot (hR : okR ρ s) (hw : wfR ρ) {c r what : Int} (h1 : -2147483648 ≤ c) (h2 : c < 2147483648) (h3 : -2147483648 ≤ r) (h4 : r < 2147483648) (h5 : -2147483648 ≤ what) (h6 : what < 2147483648) : fm_spot s (iI c) (iI r) (iI what) = some (iI (spotV ρ c r what)) := by
  have hC := hw.1
  have hr := hw.2.1
  unfold fm_spot spotV
  simp (disch := omega) only [hR.1, hR.2.1, iI_lit, iI_add, iI_sub, iI_mul, iI_neg, Option.bind_some, if_true, if_false, Int.reduceEq, Int.reduceLE, Int.reduceLT, Int.reduceAdd, Int.reduceSub, Int.reduceMul, Int.reduceNeg, Nat.reduceEqDiff, m_isIn]
  by_cases q1 : 0 ≤ c ∧ c ≤ rC ρ - 1
  · simp only [if_pos q1, iI_lit, iI_add, iI_sub, iI_mul, iI_neg, Option.bind_some, if_true, if_false, Int.reduceEq, Int.reduceLE, Int.reduceLT, Int.reduceAdd, Int.reduceSub, Int.reduceMul, Int.reduceNeg, Nat.reduceEqDiff, show ¬ iI 1 = iI 0 by decide]
    by_cases q2 : 0 ≤ r ∧ r ≤ rR ρ
    · have e1 := m_currentAt hR (c := c) (r := r) (by omega) (by omega)
      have e2 := m_isIron hR hw (c := c) (r := r) (by omega) (by omega)
      have h7 := hw.2.2.2.2.2.2.2.2.1 (8 * r + c) (by omega) (by omega)
      simp (disch := omega) only [if_pos q2, if_pos (And.intro q1 q2), iI_lit, iI_add, iI_sub, iI_mul, iI_neg, Option.bind_some, if_true, if_false, Int.reduceEq, Int.reduceLE, Int.reduceLT, Int.reduceAdd, Int.reduceSub, Int.reduceMul, Int.reduceNeg, Nat.reduceEqDiff, iI_le, iI_lt, iI_eq, show ¬ iI 1 = iI 0 by decide, e1, e2, m_truth]
      by_cases q3 : 0 ≤ what ∧ what ≤ 1
      · simp only [if_pos q3, iI_lit, iI_add, iI_sub, iI_mul, iI_neg, Option.bind_some, if_true, if_false, Int.reduceEq, Int.reduceLE, Int.reduceLT, Int.reduceAdd, Int.reduceSub, Int.reduceMul, Int.reduceNeg, Nat.reduceEqDiff, show ¬ iI 1 = iI 0 by decide]
        by_cases q4 : what = 0
        · simp only [if_pos q4]
        · simp only [if_neg q4, if_pos (show what = 1 by omega)]
          rcases h7 with h7 | h7 <;> rw [h7] <;> rfl
      · simp only [if_neg q3, iI_lit, iI_add, iI_sub, iI_mul, iI_neg, Option.bind_some, if_true, if_false, Int.reduceEq, Int.reduceLE, Int.reduceLT, Int.reduceAdd, Int.reduceSub, Int.reduceMul, Int.reduceNeg, Nat.reduceEqDiff, if_neg (show ¬ what = 0 by omega), if_neg (show ¬ what = 1 by omega)]
    · simp only [if_neg q2, iI_lit, iI_add, iI_sub, iI_mul, iI_neg, Option.bind_some, if_true, if_false, Int.reduceEq, Int.reduceLE, Int.reduceLT, Int.reduceAdd, Int.reduceSub, Int.reduceMul, Int.reduceNeg, Nat.reduceEqDiff, if_neg (show ¬ ((0 ≤ c ∧ c ≤ rC ρ - 1) ∧ 0 ≤ r ∧ r ≤ rR ρ) from fun z => q2 z.2)]
  · simp only [if_neg q1, iI_lit, iI_add, iI_sub, iI_mul, iI_neg, Option.bind_some, if_true, if_false, Int.reduceEq, Int.reduceLE, Int.reduceLT, Int.reduceAdd, Int.reduceSub, Int.reduceMul, Int.reduceNeg, Nat.reduceEqDiff, if_neg (show ¬ ((0 ≤ c ∧ c ≤ rC ρ - 1) ∧ 0 ≤ r ∧ r ≤ rR ρ) from fun z => q1 z.1)]
theorem m_hotter (hR : okR ρ s) (hw : wfR ρ) (ha : ar s 22 28 x) (hx : wfS ρ x) {b : Int} (h1 : -2147483648 ≤ b) (h2 : b < 2147483648) : ∃ s', fm_hotter s (iI b) = some (iI (if 0 ≤ b ∧ b < rB ρ then hot ρ x b else -1), s') ∧ fr [] [8, 9, 23] s s' := by
  obtain ⟨s1, e1, f1, a1⟩ := m_fill ha
  have hR1 := hR.fr f1 rfl rfl
  unfold fm_hotter
  rw [e1]
  simp only [Option.bind_some]
  rw [m_isBoard hR1 hw h1 h2]
  by_cases h : 0 ≤ b ∧ b < rB ρ
  · obtain ⟨s2, e2, f2⟩ := m_hotterOf hR1 hw a1 hx h.1 h.2
    refine ⟨s2, ?_, (f1.mono rfl rfl).trans (f2.mono rfl rfl)⟩
    simp only [if_pos h, iI_lit, iI_add, iI_sub, iI_mul, iI_neg, Option.bind_some, if_true, if_false, Int.reduceEq, Int.reduceLE, Int.reduceLT, Int.reduceAdd, Int.reduceSub, Int.reduceMul, Int.reduceNeg, Nat.reduceEqDiff, show ¬ iI 1 = iI 0 by decide, e2]
  · refine ⟨s1, ?_, f1.mono rfl rfl⟩
    simp only [if_neg h, iI_lit, iI_add, iI_sub, iI_mul, iI_neg, Option.bind_some, if_true, if_false, Int.reduceEq, Int.reduceLE, Int.reduceLT, Int.reduceAdd, Int.reduceSub, Int.reduceMul, Int.reduceNeg, Nat.reduceEqDiff]
end B4

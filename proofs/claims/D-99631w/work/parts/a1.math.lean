/-! LAYER 3: the mathematical river and state; the model's small functions -/
set_option maxRecDepth 100000
/-- a river: numbers (columns, rows, boards, loads, flood, units, draw), rows of numbers (current, iron, wide, at, bears, wide of loads), the formula's steps -/
abbrev Rv : Type := (Nat → Int) × (Nat → Int → Int) × List (Nat × Int32)
abbrev rC (ρ : Rv) : Int := ρ.1 0
abbrev rR (ρ : Rv) : Int := ρ.1 1
abbrev rB (ρ : Rv) : Int := ρ.1 2
abbrev rL (ρ : Rv) : Int := ρ.1 3
abbrev rF (ρ : Rv) : Int := ρ.1 4
abbrev rU (ρ : Rv) : Int := ρ.1 5
abbrev rCu (ρ : Rv) : Int → Int := ρ.2.1 0
abbrev rIr (ρ : Rv) : Int → Int := ρ.2.1 1
abbrev rBW (ρ : Rv) : Int → Int := ρ.2.1 2
abbrev rBA (ρ : Rv) : Int → Int := ρ.2.1 3
abbrev rBB (ρ : Rv) : Int → Int := ρ.2.1 4
abbrev rLW (ρ : Rv) : Int → Int := ρ.2.1 5
abbrev rS (ρ : Rv) : List (Nat × Int32) := ρ.2.2
/-- the stack of a formula: may these steps be done upon n values? -/
def okD : List (Nat × Int32) → Nat → Bool
  | [], n => decide (n = 1)
  | p :: l, n => match p.1 with
    | 0 => decide (n < 64) && okD l (n + 1)
    | 1 => decide (n < 64) && decide (0 ≤ p.2) && decide (p.2 < 6) && okD l (n + 1)
    | 2 => decide (1 ≤ n) && okD l n
    | 3 => decide (2 ≤ n) && okD l (n - 1)
    | _ => false
def wfR (ρ : Rv) : Prop := (1 ≤ rC ρ ∧ rC ρ ≤ 8) ∧ (1 ≤ rR ρ ∧ rR ρ ≤ 6) ∧ (0 ≤ rB ρ ∧ rB ρ ≤ 4) ∧ (0 ≤ rL ρ ∧ rL ρ ≤ 7) ∧ (0 ≤ rF ρ ∧ rF ρ ≤ 100) ∧ (0 ≤ rU ρ ∧ rU ρ ≤ 60) ∧
  (∀ z, 0 ≤ z → z < 56 → 0 ≤ rCu ρ z ∧ rCu ρ z ≤ 7) ∧ (∀ z, 0 ≤ z → z < 56 → 8 * rR ρ ≤ z → rCu ρ z = 0) ∧ (∀ z, 0 ≤ z → z < 56 → rIr ρ z = 0 ∨ rIr ρ z = 1) ∧
  (∀ b, 0 ≤ b → b < rB ρ → (0 ≤ rBW ρ b ∧ rBW ρ b ≤ 99) ∧ (0 ≤ rBA ρ b ∧ rBA ρ b < rC ρ) ∧ (0 ≤ rBB ρ b ∧ rBB ρ b ≤ 99)) ∧ (∀ l, 0 ≤ l → l < rL ρ → 0 ≤ rLW ρ l ∧ rLW ρ l ≤ 99) ∧
  (rS ρ = [] ∨ okD (rS ρ) 0 = true) ∧ (rS ρ).length ≤ 320
/-- a state of the boards: columns 0.., rows 4.., heat 8.., scorches 12.., strokes 16.., loads 20.., seed 27 -/
def wfS (ρ : Rv) (x : Int → Int) : Prop := (∀ b, 0 ≤ b → b < rB ρ → (0 ≤ x b ∧ x b < rC ρ) ∧ (0 ≤ x (4 + b) ∧ x (4 + b) ≤ rR ρ) ∧ (0 ≤ x (8 + b) ∧ x (8 + b) ≤ 99) ∧ (0 ≤ x (12 + b) ∧ x (12 + b) ≤ 999)) ∧ (∀ l, 0 ≤ l → l < rL ρ → -2 ≤ x (20 + l) ∧ x (20 + l) < rB ρ) ∧ 0 ≤ x 27 ∧ x 27 < 1000
/-- the model holds this river -/
def okR (ρ : Rv) (s : mS) : Prop := s.1 46 = iI (rC ρ) ∧ s.1 47 = iI (rR ρ) ∧ s.1 48 = iI (rB ρ) ∧ s.1 49 = iI (rL ρ) ∧ s.1 50 = iI (rF ρ) ∧ s.1 21 = iI (rU ρ) ∧ ar s 16 56 (rCu ρ) ∧ ar s 17 56 (rIr ρ) ∧ ar s 18 (rB ρ) (rBW ρ) ∧ ar s 19 (rB ρ) (rBA ρ) ∧ ar s 20 (rB ρ) (rBB ρ) ∧ ar s 21 (rL ρ) (rLW ρ) ∧ s.1 18 = iI (rS ρ).length ∧ (∀ k p, (rS ρ)[k]? = some p → s.2.2.1 5 k = iI p.1 ∧ s.2.2.1 6 k = p.2)
theorem okR.fr {ρ : Rv} {s s1 : mS} {K J : List Nat} (h : okR ρ s) (f : fr K J s s1) (hK : K.all (fun k => !([46, 47, 48, 49, 50, 21, 18].contains k)) = true) (hJ : J.all (fun k => !([16, 17, 18, 19, 20, 21, 5, 6].contains k)) = true) : okR ρ s1 := by
  have nk : ∀ k, k ∈ [46, 47, 48, 49, 50, 21, 18] → K.contains k = false := by
    intro k hk
    apply Classical.byContradiction
    intro hc
    have hc : K.contains k = true := by simpa using hc
    have := List.all_eq_true.mp hK k (by simpa using hc)
    simp only [Bool.not_eq_true'] at this
    rw [List.contains_iff_mem.mpr hk] at this
    cases this
  have nj : ∀ k, k ∈ [16, 17, 18, 19, 20, 21, 5, 6] → J.contains k = false := by
    intro k hk
    apply Classical.byContradiction
    intro hc
    have hc : J.contains k = true := by simpa using hc
    have := List.all_eq_true.mp hJ k (by simpa using hc)
    simp only [Bool.not_eq_true'] at this
    rw [List.contains_iff_mem.mpr hk] at this
    cases this
  obtain ⟨h1, h2, h3, h4, h5, h6, h7, h8, h9, h10, h11, h12, h13, h14⟩ := h
  refine ⟨?_, ?_, ?_, ?_, ?_, ?_, f.ar h7 (nj 16 (by decide)), f.ar h8 (nj 17 (by decide)), f.ar h9 (nj 18 (by decide)), f.ar h10 (nj 19 (by decide)), f.ar h11 (nj 20 (by decide)), f.ar h12 (nj 21 (by decide)), ?_, fun k p hp => ?_⟩
  · rw [f.s 46 (nk 46 (by decide)), h1]
  · rw [f.s 47 (nk 47 (by decide)), h2]
  · rw [f.s 48 (nk 48 (by decide)), h3]
  · rw [f.s 49 (nk 49 (by decide)), h4]
  · rw [f.s 50 (nk 50 (by decide)), h5]
  · rw [f.s 21 (nk 21 (by decide)), h6]
  · rw [f.s 18 (nk 18 (by decide)), h13]
  · rw [f.a 5 (nj 5 (by decide)), f.a 6 (nj 6 (by decide))]
    exact h14 k p hp
def clampI (v m : Int) : Int := if 0 ≤ v then (if v ≤ m then v else m) else 0
def sumW (ρ : Rv) (x : Int → Int) (b : Int) : Nat → Int
  | 0 => 0
  | n + 1 => sumW ρ x b n + (if x (20 + n) = b then rLW ρ n else 0)
def burd (ρ : Rv) (x : Int → Int) (b : Int) : Int := sumW ρ x b (rL ρ).toNat
theorem sumW_b {ρ : Rv} (hw : wfR ρ) (x : Int → Int) (b : Int) : ∀ n : Nat, (n : Int) ≤ rL ρ → 0 ≤ sumW ρ x b n ∧ sumW ρ x b n ≤ 99 * n := by
  intro n
  induction n with
  | zero => intro _; exact ⟨Int.le_refl _, Int.le_refl _⟩
  | succ n ih =>
    intro hn
    have h1 := ih (by omega)
    obtain ⟨-, -, -, -, -, -, -, -, -, -, hl, -⟩ := hw
    have h2 := hl n (by omega) (by omega)
    simp only [sumW]
    split <;> omega
theorem m_truth (v : Int32) : fm_truth v = some (if v = 0 then 0 else 1) := by
  unfold fm_truth
  split <;> rfl
theorem m_within {v m : Int} (h1 : -2147483648 ≤ v) (h2 : v < 2147483648) (h3 : -2147483648 ≤ m) (h4 : m < 2147483648) : fm_within (iI v) (iI m) = some (iI (clampI v m)) := by
  simp (disch := omega) only [fm_within, clampI, iI_lit, iI_add, iI_sub, iI_mul, iI_neg, Option.bind_some, if_true, if_false, Int.reduceEq, Int.reduceLE, Int.reduceLT, Int.reduceAdd, Int.reduceSub, Int.reduceMul, Int.reduceNeg, Nat.reduceEqDiff, iI_le, iI_lt, iI_eq]
  split
  · split <;> rfl
  · rfl
theorem m_isIn {v a b : Int} (h1 : -2147483648 ≤ v) (h2 : v < 2147483648) (h3 : -2147483648 ≤ a) (h4 : a < 2147483648) (h5 : -2147483648 ≤ b) (h6 : b < 2147483648) : fm_isIn (iI v) (iI a) (iI b) = some (if a ≤ v ∧ v ≤ b then 1 else 0) := by
  simp (disch := omega) only [fm_isIn, iI_lit, iI_add, iI_sub, iI_mul, iI_neg, Option.bind_some, if_true, if_false, Int.reduceEq, Int.reduceLE, Int.reduceLT, Int.reduceAdd, Int.reduceSub, Int.reduceMul, Int.reduceNeg, Nat.reduceEqDiff, iI_le, iI_lt, iI_eq]
  by_cases h : v < a
  · rw [if_pos h, if_neg (by omega)]
  · rw [if_neg h]
    by_cases h' : b < v
    · rw [if_pos h', if_neg (by omega)]
    · rw [if_neg h', if_pos (by omega)]
section M1
variable {ρ : Rv} {s : mS} {x : Int → Int}
theorem m_burdenOf (hR : okR ρ s) (hw : wfR ρ) (ha : ar s 23 28 x) (hx : wfS ρ x) {b : Int} (hb : -10 ≤ b) (hb2 : b ≤ 10) : fm_burdenOf s (iI b) = some (iI (burd ρ x b)) := by
  obtain ⟨-, -, -, hL, -, -, -, -, -, -, -, hlw, -⟩ := hR
  have hw1 := hw
  obtain ⟨-, -, hbb, hl, -, -, -, -, -, -, hlb, -⟩ := hw
  unfold fm_burdenOf
  have : lp (fm_burdenOf_b4 s (iI b)) (0, 0) = some (iI (burd ρ x b)) := by
    refine lp_seq (fun i => (iI (sumW ρ x b i), iI i)) (rL ρ).toNat (fun i hi => ?_) ?_
    · have h1 := hx.2.1 i (by omega) (by omega)
      have h2 := ha (20 + i) (by omega) (by omega)
      have h3 := hlw i (by omega) (by omega)
      have h4 := hlb i (by omega) (by omega)
      have h5 := sumW_b hw1 x b i (by omega)
      simp (disch := omega) only [fm_burdenOf_b4, hL, iI_lit, iI_add, iI_sub, iI_mul, iI_neg, Option.bind_some, if_true, if_false, Int.reduceEq, Int.reduceLE, Int.reduceLT, Int.reduceAdd, Int.reduceSub, Int.reduceMul, Int.reduceNeg, Nat.reduceEqDiff, iI_le, iI_lt, iI_eq, ld_i, sto_i, h2, h3, sumW]
      rw [if_neg (by omega)]
      split <;> rfl
    · simp (disch := omega) only [fm_burdenOf_b4, hL, iI_lit, iI_add, iI_sub, iI_mul, iI_neg, Option.bind_some, if_true, if_false, Int.reduceEq, Int.reduceLE, Int.reduceLT, Int.reduceAdd, Int.reduceSub, Int.reduceMul, Int.reduceNeg, Nat.reduceEqDiff, iI_le, iI_lt, iI_eq, ld_i, sto_i]
      rw [if_pos (by omega)]
      rfl
  rw [this]
  rfl
end M1

/-! LAYER 3: rows of steers: the model's goRow -/
set_option maxRecDepth 100000
def p3 (z : Int) : Int := 3 ^ z.toNat
theorem p3_pos (z : Int) : 0 < p3 z := Int.pow_pos (by omega)
theorem p3_0 : p3 0 = 1 := rfl
theorem p3_succ {z : Int} (h : 0 ≤ z) : p3 (z + 1) = 3 * p3 z := by
  have : (z + 1).toNat = z.toNat + 1 := by omega
  simp only [p3, this]
  rw [Int.pow_succ]
  omega
theorem p3_le {z : Int} (h : z ≤ 6) : p3 z ≤ 729 := by
  have : (3 : Nat) ^ z.toNat ≤ 3 ^ 6 := Nat.pow_le_pow_right (by omega) (by omega)
  have e : p3 z = ((3 ^ z.toNat : Nat) : Int) := by simp [p3]
  rw [e]
  have : (3 : Nat) ^ 6 = 729 := rfl
  omega
/-- the k-th steer of row v of n -/
def dig (v n k : Int) : Int := v / p3 (n - 1 - k) % 3 - 1
theorem dig_b (v n k : Int) : -1 ≤ dig v n k ∧ dig v n k ≤ 1 := by unfold dig; omega
/-- a row is gone: (whether it never hissed, the state) behind k strokes -/
def rowR (ρ : Rv) (x : Int → Int) (b v n : Int) : Nat → Int × (Int → Int)
  | 0 => (1, x)
  | k + 1 => if (rowR ρ x b v n k).1 = 0 then rowR ρ x b v n k else (if strV ρ (rowR ρ x b v n k).2 b (dig v n k) 1 1 % 2 = 0 then 1 else 0, strS ρ (rowR ρ x b v n k).2 b (dig v n k) 1 1)
section ROW
variable {ρ : Rv} {x : Int → Int} {b v n : Int}
theorem rowR_01 (k : Nat) : (rowR ρ x b v n k).1 = 0 ∨ (rowR ρ x b v n k).1 = 1 := by
  induction k with
  | zero => exact Or.inr rfl
  | succ k ih =>
    simp only [rowR]
    split
    · exact ih
    · simp only
      split
      · exact Or.inr rfl
      · exact Or.inl rfl
theorem rowR_wf (hw : wfR ρ) (hx : wfS ρ x) (h1 : 0 ≤ b) (h2 : b < rB ρ) (k : Nat) (hk : (k : Int) ≤ rR ρ - x (4 + b)) : wfS ρ (rowR ρ x b v n k).2 ∧ ((rowR ρ x b v n k).1 = 1 → (rowR ρ x b v n k).2 (4 + b) = x (4 + b) + k) ∧ (∀ z, 20 ≤ z → (rowR ρ x b v n k).2 z = x z) := by
  induction k with
  | zero => exact ⟨hx, fun _ => by show x (4 + b) = _; omega, fun z _ => rfl⟩
  | succ k ih =>
    obtain ⟨i1, i2, i3⟩ := ih (by omega)
    have hbb := hw.2.2.1
    have hx1 := hx.1 b h1 h2
    simp only [rowR]
    split
    · rename_i h0
      exact ⟨i1, fun h => by rw [h0] at h; omega, i3⟩
    · rename_i h0
      have hr := i2 (by have := rowR_01 (ρ := ρ) (x := x) (b := b) (v := v) (n := n) k; omega)
      have h7 : 0 ≤ (rowR ρ x b v n k).2 (4 + b) + 1 := by omega
      have h8 : (rowR ρ x b v n k).2 (4 + b) + 1 ≤ rR ρ := by omega
      refine ⟨wfS_str hw i1 h1 h2 h7 h8, fun h => ?_, fun z hz => ?_⟩
      · simp only at h ⊢
        rw [str_row h1 (by omega)]
        obtain ⟨e, e2⟩ := strV_b (t := dig v n k) (k := 1) hw i1 h1 h2 h7 h8
        rw [e] at h
        rcases e2 with e2 | e2
        · rw [if_pos e2, hr]; omega
        · rw [e2] at h
          split at h <;> (split at h <;> omega)
      · simp only
        rw [str_else h1 (by omega) (by omega) (by omega) (by omega) (by omega) (by omega)]
        exact i3 z hz
end ROW
section M6
variable {ρ : Rv} {s : mS} {x : Int → Int}
theorem m_leftOf (hR : okR ρ s) (ha : ar s 22 28 x) {b : Int} (h1 : 0 ≤ b) (h2 : b < 4) : fm_leftOf s (iI b) = some (iI (rR ρ - x (4 + b))) := by
  have := ha (4 + b) (by omega) (by omega)
  simp (disch := omega) only [fm_leftOf, iI_lit, iI_add, iI_sub, iI_mul, iI_neg, Option.bind_some, if_true, if_false, Int.reduceEq, Int.reduceLE, Int.reduceLT, Int.reduceAdd, Int.reduceSub, Int.reduceMul, Int.reduceNeg, Nat.reduceEqDiff, ld_i, sto_i, this, hR.2.1]
theorem m_power {a n : Int} (h : 0 ≤ n) (h2 : n < 2147483648) : fm_power (iI a) (iI n) = some (iI (a ^ n.toNat)) := by
  have : lp (fm_power_b4 (iI a) (iI n)) (1, 0) = some (iI (a ^ n.toNat)) := by
    rw [show ((1 : Int32), (0 : Int32)) = (iI (a ^ 0), iI ((0 : Nat) : Int)) by rw [Int.pow_zero]; rfl]
    refine lp_seq (fun i => (iI (a ^ i), iI i)) n.toNat (fun i hi => ?_) ?_
    · simp (disch := omega) only [fm_power_b4, iI_lit, iI_add, iI_sub, iI_mul, iI_neg, Option.bind_some, if_true, if_false, Int.reduceEq, Int.reduceLE, Int.reduceLT, Int.reduceAdd, Int.reduceSub, Int.reduceMul, Int.reduceNeg, Nat.reduceEqDiff, iI_le, iI_lt, iI_eq]
      rw [if_neg (by omega), Int.pow_succ]
      rfl
    · simp (disch := omega) only [fm_power_b4, iI_lit, iI_add, iI_sub, iI_mul, iI_neg, Option.bind_some, if_true, if_false, Int.reduceEq, Int.reduceLE, Int.reduceLT, Int.reduceAdd, Int.reduceSub, Int.reduceMul, Int.reduceNeg, Nat.reduceEqDiff, iI_le, iI_lt, iI_eq]
      rw [if_pos (by omega)]
  unfold fm_power
  rw [this]
  rfl
theorem m_steers {v n : Int} (hv : 0 ≤ v) (hv2 : v < p3 n) (hn : 0 ≤ n) (hn2 : n ≤ 6) (b : Int32) : ∃ r, lp (fm_goRow_b18 b (iI n)) (iI v, iI (n - 1), s) = some r ∧ (fr [] [25] s r ∧ ar r 25 n (dig v n)) := by
  have hp := p3_le hn2
  refine lp_inv (fun i q => q.1 = iI (v / p3 i) ∧ q.2.1 = iI (n - 1 - i) ∧ fr [] [25] s q.2.2 ∧ (∀ z, n - 1 - i < z → z < n → 0 ≤ z → q.2.2.2.2.1 25 z.toNat = iI (dig v n z))) n.toNat ?_ ?_ ⟨by rw [show p3 ((0 : Nat) : Int) = 1 from rfl, Int.ediv_one], by simp, fr.refl, fun z h1 h2 h3 => by simp at h1; omega⟩
  · rintro i ⟨a, c, u⟩ hi ⟨h1, h2, h3, h4⟩
    simp only at h1 h2 h3 h4
    subst h1 h2
    have hq : 0 ≤ v / p3 i := Int.ediv_nonneg hv (Int.le_of_lt (p3_pos _))
    have hq2 : v / p3 i ≤ v := Int.ediv_le_self _ hv
    left
    refine ⟨(iI (v / p3 (i + 1 : Nat)), iI (n - 1 - (i + 1 : Nat)), mSa u 25 (upd (u.2.2.1 25) (n - 1 - i).toNat (iI (v / p3 i % 3 - 1)))), ?_, rfl, rfl, h3.sa rfl, fun z z1 z2 z3 => ?_⟩
    · simp (disch := omega) only [fm_goRow_b18, iI_lit, iI_add, iI_sub, iI_mul, iI_neg, Option.bind_some, if_true, if_false, Int.reduceEq, Int.reduceLE, Int.reduceLT, Int.reduceAdd, Int.reduceSub, Int.reduceMul, Int.reduceNeg, Nat.reduceEqDiff, iI_le, iI_lt, iI_eq, ld_i, sto_i, rm_i, dv_i]
      rw [if_neg (by omega)]
      have e1 : v / p3 i / 3 = v / p3 (i + 1 : Nat) := by
        rw [show ((i + 1 : Nat) : Int) = (i : Int) + 1 by omega, p3_succ (by omega), Int.mul_comm, Int.ediv_ediv_of_nonneg (Int.le_of_lt (p3_pos _))]
      rw [e1, show n - 1 - (i : Int) + -1 = n - 1 - ((i + 1 : Nat) : Int) by omega]
    · simp only [sa_get, if_true]
      rw [upd_i (by omega) z3]
      split
      · rename_i e
        rw [e]
        unfold dig
        rw [show n - 1 - (n - 1 - (i : Int)) = i by omega]
      · exact h4 z (by omega) z2 z3
  · rintro ⟨a, c, u⟩ ⟨h1, h2, h3, h4⟩
    simp only at h1 h2 h3 h4
    subst h1 h2
    refine ⟨u, ?_, h3, fun z z1 z2 => h4 z (by omega) z2 z1⟩
    simp (disch := omega) only [fm_goRow_b18, iI_lit, iI_add, iI_sub, iI_mul, iI_neg, Option.bind_some, if_true, if_false, Int.reduceEq, Int.reduceLE, Int.reduceLT, Int.reduceAdd, Int.reduceSub, Int.reduceMul, Int.reduceNeg, Nat.reduceEqDiff, iI_le, iI_lt, iI_eq, ld_i, sto_i]
    rw [if_pos (by omega)]
theorem m_goRow (hR : okR ρ s) (hw : wfR ρ) (ha : ar s 22 28 x) (hx : wfS ρ x) {b v : Int} (h1 : 0 ≤ b) (h2 : b < rB ρ) (hv : 0 ≤ v) (hv2 : v < p3 (rR ρ - x (4 + b))) : ∃ s', fm_goRow s (iI b) (iI v) = some (iI (rowR ρ x b v (rR ρ - x (4 + b)) (rR ρ - x (4 + b)).toNat).1, s') ∧ fr [] [8, 9, 23, 25] s s' ∧ ar s' 23 28 (rowR ρ x b v (rR ρ - x (4 + b)) (rR ρ - x (4 + b)).toNat).2 ∧ ar s' 25 (rR ρ - x (4 + b)) (dig v (rR ρ - x (4 + b))) := by
  have hbb := hw.2.2.1
  have hrr := hw.2.1
  have hx1 := hx.1 b h1 h2
  obtain ⟨s1, e1, f1, a1⟩ := m_fill ha
  have hR1 := hR.fr f1 rfl rfl
  have e2 := m_leftOf hR1 (f1.ar ha rfl) h1 (show b < 4 by omega)
  generalize hn : rR ρ - x (4 + b) = n at *
  obtain ⟨s2, e3, f2, a2⟩ := m_steers (s := s1) hv hv2 (by omega) (by omega) (iI b)
  have hR2 := hR1.fr f2 rfl rfl
  have a3 := f2.ar a1 rfl
  have hloop : ∃ r, lp (fm_goRow_b54 (iI b) (iI n)) (1, 0, s2) = some r ∧ (r.1 = iI (rowR ρ x b v n n.toNat).1 ∧ fr [] [8, 9, 23] s2 r.2 ∧ ar r.2 23 28 (rowR ρ x b v n n.toNat).2) := by
    refine lp_inv (fun i q => q.1 = iI (rowR ρ x b v n i).1 ∧ q.2.1 = iI i ∧ fr [] [8, 9, 23] s2 q.2.2 ∧ ar q.2.2 23 28 (rowR ρ x b v n i).2) n.toNat ?_ ?_ ⟨rfl, rfl, fr.refl, a3⟩
    · rintro i ⟨o, c, u⟩ hi ⟨g1, g2, g3, g4⟩
      simp only at g1 g2 g3 g4
      subst g1 g2
      have hRu := hR2.fr g3 rfl rfl
      obtain ⟨w1, w2, w3⟩ := rowR_wf (v := v) (n := n) hw hx h1 h2 i (by omega)
      have h01 := rowR_01 (ρ := ρ) (x := x) (b := b) (v := v) (n := n) i
      rcases h01 with h0 | h0
      · right
        have hst : ∀ j : Nat, rowR ρ x b v n (i + j) = rowR ρ x b v n i := by
          intro j
          induction j with
          | zero => rfl
          | succ j ih =>
            show rowR ρ x b v n (i + j + 1) = _
            simp only [rowR]
            rw [ih, if_pos h0]
        have he : rowR ρ x b v n n.toNat = rowR ρ x b v n i := by
          have := hst (n.toNat - i)
          rwa [show i + (n.toNat - i) = n.toNat by omega] at this
        refine ⟨(iI (rowR ρ x b v n i).1, u), ?_, by rw [he], g3, by rw [he]; exact g4⟩
        simp (disch := omega) only [fm_goRow_b54, iI_lit, iI_add, iI_sub, iI_mul, iI_neg, Option.bind_some, if_true, if_false, Int.reduceEq, Int.reduceLE, Int.reduceLT, Int.reduceAdd, Int.reduceSub, Int.reduceMul, Int.reduceNeg, Nat.reduceEqDiff, iI_le, iI_lt, iI_eq, h0]
        rw [if_neg (by omega)]
      · left
        have hrow := w2 h0
        have hd := dig_b v n i
        have d25 : u.2.2.1 25 (i : Int).toNat = iI (dig v n i) := by
          rw [g3.a 25 rfl]
          exact a2 i (by omega) (by omega)
        obtain ⟨u2, e4, f4, a4⟩ := m_goStroke hRu hw g4 w1 (t := dig v n i) (on := 1) (k := 1) h1 h2 (by omega) (by omega) (by omega) (by omega) (by omega) (by omega)
        obtain ⟨vb, vb2⟩ := strV_b (t := dig v n i) (on := 1) (k := 1) hw w1 h1 h2 (by omega) (by omega)
        have hvr : 0 ≤ strV ρ (rowR ρ x b v n i).2 b (dig v n i) 1 1 ∧ strV ρ (rowR ρ x b v n i).2 b (dig v n i) 1 1 ≤ 3 := by
          rw [vb]
          split <;> omega
        have hs1 : rowR ρ x b v n (i + 1) = (if strV ρ (rowR ρ x b v n i).2 b (dig v n i) 1 1 % 2 = 0 then 1 else 0, strS ρ (rowR ρ x b v n i).2 b (dig v n i) 1 1) := by
          simp only [rowR]
          rw [if_neg (by omega)]
        refine ⟨(iI (rowR ρ x b v n (i + 1)).1, iI (i + 1 : Nat), u2), ?_, rfl, rfl, g3.trans f4, by rw [hs1]; exact a4⟩
        rw [hs1]
        simp (disch := omega) only [fm_goRow_b54, iI_lit, iI_add, iI_sub, iI_mul, iI_neg, Option.bind_some, if_true, if_false, Int.reduceEq, Int.reduceLE, Int.reduceLT, Int.reduceAdd, Int.reduceSub, Int.reduceMul, Int.reduceNeg, Nat.reduceEqDiff, iI_le, iI_lt, iI_eq, ld_i, sto_i, h0, d25, e4, rm_i]
        rw [if_neg (by omega)]
        split <;> rfl
    · rintro ⟨o, c, u⟩ ⟨g1, g2, g3, g4⟩
      simp only at g1 g2 g3 g4
      subst g1 g2
      refine ⟨(iI (rowR ρ x b v n n.toNat).1, u), ?_, rfl, g3, g4⟩
      simp (disch := omega) only [fm_goRow_b54, iI_lit, iI_add, iI_sub, iI_mul, iI_neg, Option.bind_some, if_true, if_false, Int.reduceEq, Int.reduceLE, Int.reduceLT, Int.reduceAdd, Int.reduceSub, Int.reduceMul, Int.reduceNeg, Nat.reduceEqDiff, iI_le, iI_lt, iI_eq]
      rw [if_pos (by omega)]
  obtain ⟨⟨o, s3⟩, e5, g1, g2, g3⟩ := hloop
  simp only at g1 g2 g3
  subst g1
  refine ⟨s3, ?_, ((f1.mono rfl rfl).trans (f2.mono rfl rfl)).trans (g2.mono rfl rfl), g3, g2.ar a2 rfl⟩
  unfold fm_goRow
  rw [e1]
  simp only [Option.bind_some]
  rw [e2]
  simp only [Option.bind_some, i1, i0, iI_sub] at e5 ⊢
  rw [e3]
  simp only [Option.bind_some]
  rw [e5]
  simp only [Option.bind_some]
  rcases rowR_01 (ρ := ρ) (x := x) (b := b) (v := v) (n := n) n.toNat with h0 | h0
  · rw [h0, if_pos (Or.inl rfl)]
  · rw [h0, if_pos (Or.inr rfl)]
end M6

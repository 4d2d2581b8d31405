/-! LAYER 3: the model's questions about rows of steers -/
set_option maxRecDepth 100000
theorem orb_tab : ∀ l : Fin 8, ∀ S : Fin 256, iI S.val ||| (iI 1 <<< (iI l.val &&& iI 31)) = iI (if S.val / 2 ^ l.val % 2 = 1 then S.val else S.val + 2 ^ l.val : Nat) ∧ (if S.val / 2 ^ l.val % 2 = 1 then S.val else S.val + 2 ^ l.val) < 256 := by decide +kernel
/-- a number joins a set -/
def orb (S l : Int) : Int := if bit S l = 1 then S else S + pw l
theorem orb_i {S l : Int} (h1 : 0 ≤ l) (h2 : l < 8) (h3 : 0 ≤ S) (h4 : S < 256) : iI S ||| (iI 1 <<< (iI l &&& iI 31)) = iI (orb S l) ∧ 0 ≤ orb S l ∧ orb S l < 256 := by
  obtain ⟨n, rfl⟩ : ∃ n : Nat, l = n := ⟨l.toNat, by omega⟩
  obtain ⟨m, rfl⟩ : ∃ m : Nat, S = m := ⟨S.toNat, by omega⟩
  have := orb_tab ⟨n, by omega⟩ ⟨m, by omega⟩
  have e : orb (m : Int) (n : Int) = ((if m / 2 ^ n % 2 = 1 then m else m + 2 ^ n : Nat) : Int) := by
    unfold orb
    rw [show bit (m : Int) (n : Int) = ((m / 2 ^ n % 2 : Nat) : Int) by simp [bit, pw], pw_nat]
    by_cases h : m / 2 ^ n % 2 = 1
    · rw [if_pos h, if_pos (by omega)]
    · rw [if_neg h, if_neg (by omega)]
      omega
  rw [e]
  refine ⟨this.1, by omega, by have := this.2; simp only at this; omega⟩
def lft (ρ : Rv) (x : Int → Int) (b : Int) : Int := rR ρ - x (4 + b)
def rowE (ρ : Rv) (x : Int → Int) (b v : Int) : Int × (Int → Int) := rowR ρ x b v (lft ρ x b) (lft ρ x b).toNat
def landN (ρ : Rv) (x : Int → Int) (b : Int) : Nat → Int
  | 0 => 0
  | k + 1 => if (rowE ρ x b k).1 = 0 then landN ρ x b k else orb (landN ρ x b k) ((rowE ρ x b k).2 b)
def landS (ρ : Rv) (x : Int → Int) (b : Int) : Int := landN ρ x b (p3 (lft ρ x b)).toNat
def rowsN (ρ : Rv) (x : Int → Int) (b : Int) : Nat → Int
  | 0 => 0
  | k + 1 => rowsN ρ x b k + (rowE ρ x b k).1
/-- the first of the least that will do (not below nought) -/
def bestN (c : Int → Int) : Nat → Int × Int
  | 0 => (1000000, -1)
  | k + 1 => if 0 ≤ c k ∧ c k < (bestN c k).1 then (c k, k) else bestN c k
def turnN (v n : Int) : Nat → Int
  | 0 => 0
  | k + 1 => turnN v n k + (if dig v n k = 0 then 0 else 1)
def coolC (ρ : Rv) (x : Int → Int) (b v : Int) : Int := if (rowE ρ x b v).1 = 0 then -1 else 100 * ((rowE ρ x b v).2 (12 + b) - x (12 + b)) + (rowE ρ x b v).2 (8 + b)
def strC (ρ : Rv) (x : Int → Int) (b to v : Int) : Int := if (rowE ρ x b v).1 = 0 then -1 else if (rowE ρ x b v).2 b = to then turnN v (lft ρ x b) (lft ρ x b).toNat else -1
section M7
variable {ρ : Rv} {s : mS} {x : Int → Int}
theorem lft_b (hw : wfR ρ) (hx : wfS ρ x) {b : Int} (h1 : 0 ≤ b) (h2 : b < rB ρ) : 0 ≤ lft ρ x b ∧ lft ρ x b ≤ 6 := by
  have := hx.1 b h1 h2
  have := hw.2.1
  unfold lft
  omega
theorem m_isBoard (hR : okR ρ s) (hw : wfR ρ) {b : Int} (h1 : -2147483648 ≤ b) (h2 : b < 2147483648) : fm_isBoard s (iI b) = some (if 0 ≤ b ∧ b < rB ρ then 1 else 0) := by
  have hb := hw.2.2.1
  unfold fm_isBoard
  simp only [hR.2.2.1, i0, i1, iI_sub]
  rw [m_isIn h1 h2 (by omega) (by omega) (by omega) (by omega)]
  simp only [Option.bind_some]
  by_cases h : 0 ≤ b ∧ b < rB ρ
  · rw [if_pos (show 0 ≤ b ∧ b ≤ rB ρ - 1 by omega), if_pos h]; rfl
  · rw [if_neg (show ¬ (0 ≤ b ∧ b ≤ rB ρ - 1) by omega), if_neg h]; rfl
theorem rowE_wf (hw : wfR ρ) (hx : wfS ρ x) {b v : Int} (h1 : 0 ≤ b) (h2 : b < rB ρ) : wfS ρ (rowE ρ x b v).2 ∧ ((rowE ρ x b v).1 = 0 ∨ (rowE ρ x b v).1 = 1) := by
  have h3 := lft_b hw hx h1 h2
  exact ⟨(rowR_wf hw hx h1 h2 _ (by unfold lft at *; omega)).1, rowR_01 _⟩
theorem landN_b (hw : wfR ρ) (hx : wfS ρ x) {b : Int} (h1 : 0 ≤ b) (h2 : b < rB ρ) (k : Nat) : 0 ≤ landN ρ x b k ∧ landN ρ x b k < 256 := by
  induction k with
  | zero => exact ⟨Int.le_refl _, by show (0 : Int) < 256; omega⟩
  | succ k ih =>
    simp only [landN]
    split
    · exact ih
    · have := (rowE_wf (v := k) hw hx h1 h2).1.1 b h1 h2
      have hc := hw.1
      exact (orb_i (by omega) (by omega) ih.1 ih.2).2
theorem m_goRowE (hR : okR ρ s) (hw : wfR ρ) (ha : ar s 22 28 x) (hx : wfS ρ x) {b v : Int} (h1 : 0 ≤ b) (h2 : b < rB ρ) (hv : 0 ≤ v) (hv2 : v < p3 (lft ρ x b)) : ∃ s', fm_goRow s (iI b) (iI v) = some (iI (rowE ρ x b v).1, s') ∧ fr [] [8, 9, 23, 25] s s' ∧ ar s' 23 28 (rowE ρ x b v).2 ∧ ar s' 25 (lft ρ x b) (dig v (lft ρ x b)) := m_goRow hR hw ha hx h1 h2 hv hv2
theorem m_codes {α : Type} (hR : okR ρ s) (hw : wfR ρ) (ha : ar s 22 28 x) (hx : wfS ρ x) {b : Int} (h1 : 0 ≤ b) (h2 : b < rB ρ) (k : Int32 → Option α) : ((fm_leftOf s (iI b)).bind fun p => (fm_power 3 p).bind k) = k (iI (p3 (lft ρ x b))) := by
  have h3 := lft_b hw hx h1 h2
  have hb := hw.2.2.1
  rw [m_leftOf hR ha h1 (show b < 4 by omega)]
  simp only [Option.bind_some]
  rw [show (3 : Int32) = iI 3 from iI_lit 3, m_power (by unfold lft at *; omega) (by unfold lft at *; omega)]
  rfl
theorem m_landingsOf (hR : okR ρ s) (hw : wfR ρ) (ha : ar s 22 28 x) (hx : wfS ρ x) {b : Int} (h1 : 0 ≤ b) (h2 : b < rB ρ) : ∃ s', fm_landingsOf s (iI b) = some (iI (landS ρ x b), s') ∧ fr [] [8, 9, 23, 25] s s' := by
  have h3 := lft_b hw hx h1 h2
  have hp := p3_le h3.2
  have hp0 := p3_pos (lft ρ x b)
  have hb := hw.2.2.1
  have hc := hw.1
  have : ∃ r, lp (fm_landingsOf_b4 (iI b)) (0, 0, s) = some r ∧ (r.1 = iI (landS ρ x b) ∧ fr [] [8, 9, 23, 25] s r.2) := by
    refine lp_inv (fun i q => q.1 = iI (landN ρ x b i) ∧ q.2.1 = iI i ∧ fr [] [8, 9, 23, 25] s q.2.2) (p3 (lft ρ x b)).toNat ?_ ?_ ⟨rfl, rfl, fr.refl⟩
    · rintro i ⟨a, c, u⟩ hi ⟨g1, g2, g3⟩
      simp only at g1 g2 g3
      subst g1 g2
      have hRu := hR.fr g3 rfl rfl
      have hau := g3.ar ha rfl
      obtain ⟨u2, e1, f1, a1, -⟩ := m_goRowE hRu hw hau hx (b := b) (v := i) h1 h2 (by omega) (by omega)
      have hb1 := landN_b hw hx h1 h2 i
      have hE := rowE_wf (v := i) hw hx h1 h2
      have hcol := hE.1.1 b h1 h2
      left
      refine ⟨(iI (landN ρ x b (i + 1)), iI ((i : Int) + 1), u2), ?_, rfl, rfl, g3.trans f1⟩
      unfold fm_landingsOf_b4
      rw [m_codes hRu hw hau hx h1 h2]
      have ac := a1 b (by omega) (by omega)
      simp (disch := omega) only [iI_lit, iI_add, iI_sub, iI_mul, iI_neg, Option.bind_some, if_true, if_false, Int.reduceEq, Int.reduceLE, Int.reduceLT, Int.reduceAdd, Int.reduceSub, Int.reduceMul, Int.reduceNeg, Nat.reduceEqDiff, iI_le, iI_lt, iI_eq, e1, landN]
      rw [if_neg (by omega)]
      rcases hE.2 with h0 | h0
      · simp (disch := omega) only [h0, iI_lit, iI_add, iI_sub, iI_mul, iI_neg, Option.bind_some, if_true, if_false, Int.reduceEq, Int.reduceLE, Int.reduceLT, Int.reduceAdd, Int.reduceSub, Int.reduceMul, Int.reduceNeg, Nat.reduceEqDiff, iI_le, iI_lt, iI_eq]
      · have ho := orb_i (l := (rowE ρ x b i).2 b) (by omega) (by omega) hb1.1 hb1.2
        simp (disch := omega) only [h0, iI_lit, iI_add, iI_sub, iI_mul, iI_neg, Option.bind_some, if_true, if_false, Int.reduceEq, Int.reduceLE, Int.reduceLT, Int.reduceAdd, Int.reduceSub, Int.reduceMul, Int.reduceNeg, Nat.reduceEqDiff, iI_le, iI_lt, iI_eq, ld_i, sto_i, ac, ho.1]
    · rintro ⟨a, c, u⟩ ⟨g1, g2, g3⟩
      simp only at g1 g2 g3
      subst g1 g2
      have hRu := hR.fr g3 rfl rfl
      have hau := g3.ar ha rfl
      refine ⟨(iI (landS ρ x b), u), ?_, rfl, g3⟩
      unfold fm_landingsOf_b4
      rw [m_codes hRu hw hau hx h1 h2]
      simp (disch := omega) only [iI_lit, iI_add, iI_sub, iI_mul, iI_neg, Option.bind_some, if_true, if_false, Int.reduceEq, Int.reduceLE, Int.reduceLT, Int.reduceAdd, Int.reduceSub, Int.reduceMul, Int.reduceNeg, Nat.reduceEqDiff, iI_le, iI_lt, iI_eq]
      rw [if_pos (by omega)]
      rfl
  obtain ⟨r, e, g1, g2⟩ := this
  exact ⟨r.2, by unfold fm_landingsOf; rw [e]; simp only [Option.bind_some, g1], g2⟩
theorem m_landings (hR : okR ρ s) (hw : wfR ρ) (ha : ar s 22 28 x) (hx : wfS ρ x) {b : Int} (h1 : -2147483648 ≤ b) (h2 : b < 2147483648) : ∃ s', fm_landings s (iI b) = some (iI (if 0 ≤ b ∧ b < rB ρ then landS ρ x b else -1), s') ∧ fr [] [8, 9, 23, 25] s s' := by
  unfold fm_landings
  rw [m_isBoard hR hw h1 h2]
  by_cases h : 0 ≤ b ∧ b < rB ρ
  · obtain ⟨s', e, f⟩ := m_landingsOf hR hw ha hx h.1 h.2
    refine ⟨s', ?_, f⟩
    simp only [if_pos h, iI_lit, iI_add, iI_sub, iI_mul, iI_neg, Option.bind_some, if_true, if_false, Int.reduceEq, Int.reduceLE, Int.reduceLT, Int.reduceAdd, Int.reduceSub, Int.reduceMul, Int.reduceNeg, Nat.reduceEqDiff, e, show ¬ iI 1 = iI 0 by decide]
  · refine ⟨s, ?_, fr.refl⟩
    simp only [if_neg h, iI_lit, iI_add, iI_sub, iI_mul, iI_neg, Option.bind_some, if_true, if_false, Int.reduceEq, Int.reduceLE, Int.reduceLT, Int.reduceAdd, Int.reduceSub, Int.reduceMul, Int.reduceNeg, Nat.reduceEqDiff]
theorem m_rows (hR : okR ρ s) (hw : wfR ρ) (ha : ar s 22 28 x) (hx : wfS ρ x) {b : Int} (h1 : -2147483648 ≤ b) (h2 : b < 2147483648) : ∃ s', fm_rows s (iI b) = some (iI (if 0 ≤ b ∧ b < rB ρ then rowsN ρ x b (p3 (lft ρ x b)).toNat else -1), s') ∧ fr [] [8, 9, 23, 25] s s' := by
  unfold fm_rows
  rw [m_isBoard hR hw h1 h2]
  by_cases h : 0 ≤ b ∧ b < rB ρ
  · obtain ⟨h1, h2⟩ := h
    have h3 := lft_b hw hx h1 h2
    have hp := p3_le h3.2
    have hp0 := p3_pos (lft ρ x b)
    have hb := hw.2.2.1
    have : ∃ r, lp (fm_rows_b14 (iI b)) (iI 0, iI 0, s) = some r ∧ (r.1 = iI (rowsN ρ x b (p3 (lft ρ x b)).toNat) ∧ fr [] [8, 9, 23, 25] s r.2) := by
      refine lp_inv (fun i q => q.1 = iI (rowsN ρ x b i) ∧ q.2.1 = iI i ∧ fr [] [8, 9, 23, 25] s q.2.2) (p3 (lft ρ x b)).toNat ?_ ?_ ⟨rfl, rfl, fr.refl⟩
      · rintro i ⟨a, c, u⟩ hi ⟨g1, g2, g3⟩
        simp only at g1 g2 g3
        subst g1 g2
        have hRu := hR.fr g3 rfl rfl
        have hau := g3.ar ha rfl
        obtain ⟨u2, e1, f1, a1, -⟩ := m_goRowE hRu hw hau hx (b := b) (v := i) h1 h2 (by omega) (by omega)
        have hE := rowE_wf (v := i) hw hx h1 h2
        left
        refine ⟨(iI (rowsN ρ x b (i + 1)), iI ((i : Int) + 1), u2), ?_, rfl, rfl, g3.trans f1⟩
        unfold fm_rows_b14
        rw [m_codes hRu hw hau hx h1 h2]
        simp (disch := omega) only [iI_lit, iI_add, iI_sub, iI_mul, iI_neg, Option.bind_some, if_true, if_false, Int.reduceEq, Int.reduceLE, Int.reduceLT, Int.reduceAdd, Int.reduceSub, Int.reduceMul, Int.reduceNeg, Nat.reduceEqDiff, iI_le, iI_lt, iI_eq, e1, rowsN, m_truth]
        rw [if_neg (by omega)]
        rcases hE.2 with h0 | h0
        · simp (disch := omega) only [h0, iI_lit, iI_add, iI_sub, iI_mul, iI_neg, Option.bind_some, if_true, if_false, Int.reduceEq, Int.reduceLE, Int.reduceLT, Int.reduceAdd, Int.reduceSub, Int.reduceMul, Int.reduceNeg, Nat.reduceEqDiff, iI_le, iI_lt, iI_eq]
        · simp (disch := omega) only [h0, iI_lit, iI_add, iI_sub, iI_mul, iI_neg, Option.bind_some, if_true, if_false, Int.reduceEq, Int.reduceLE, Int.reduceLT, Int.reduceAdd, Int.reduceSub, Int.reduceMul, Int.reduceNeg, Nat.reduceEqDiff, iI_le, iI_lt, iI_eq]
      · rintro ⟨a, c, u⟩ ⟨g1, g2, g3⟩
        simp only at g1 g2 g3
        subst g1 g2
        have hRu := hR.fr g3 rfl rfl
        have hau := g3.ar ha rfl
        refine ⟨(iI (rowsN ρ x b (p3 (lft ρ x b)).toNat), u), ?_, rfl, g3⟩
        unfold fm_rows_b14
        rw [m_codes hRu hw hau hx h1 h2]
        simp (disch := omega) only [iI_lit, iI_add, iI_sub, iI_mul, iI_neg, Option.bind_some, if_true, if_false, Int.reduceEq, Int.reduceLE, Int.reduceLT, Int.reduceAdd, Int.reduceSub, Int.reduceMul, Int.reduceNeg, Nat.reduceEqDiff, iI_le, iI_lt, iI_eq]
        rw [if_pos (by omega)]
    obtain ⟨r, e, g1, g2⟩ := this
    refine ⟨r.2, ?_, g2⟩
    simp only [if_pos (And.intro h1 h2), iI_lit, iI_add, iI_sub, iI_mul, iI_neg, Option.bind_some, if_true, if_false, Int.reduceEq, Int.reduceLE, Int.reduceLT, Int.reduceAdd, Int.reduceSub, Int.reduceMul, Int.reduceNeg, Nat.reduceEqDiff, show ¬ iI 1 = iI 0 by decide]
    rw [e]
    simp only [Option.bind_some, g1]
  · refine ⟨s, ?_, fr.refl⟩
    simp only [if_neg h, iI_lit, iI_add, iI_sub, iI_mul, iI_neg, Option.bind_some, if_true, if_false, Int.reduceEq, Int.reduceLE, Int.reduceLT, Int.reduceAdd, Int.reduceSub, Int.reduceMul, Int.reduceNeg, Nat.reduceEqDiff]
theorem m_drift (hR : okR ρ s) (hw : wfR ρ) (ha : ar s 22 28 x) (hx : wfS ρ x) {b : Int} (h1 : -2147483648 ≤ b) (h2 : b < 2147483648) : ∃ s', fm_drift s (iI b) = some (iI (if 0 ≤ b ∧ b < rB ρ then (if (rowE ρ x b ((p3 (lft ρ x b) - 1) / 2)).1 = 0 then -1 else (rowE ρ x b ((p3 (lft ρ x b) - 1) / 2)).2 b) else -1), s') ∧ fr [] [8, 9, 23, 25] s s' := by
  unfold fm_drift fm_unsteered
  rw [m_isBoard hR hw h1 h2]
  by_cases h : 0 ≤ b ∧ b < rB ρ
  · obtain ⟨h1, h2⟩ := h
    have h3 := lft_b hw hx h1 h2
    have hp := p3_le h3.2
    have hp0 := p3_pos (lft ρ x b)
    have hb := hw.2.2.1
    obtain ⟨u2, e1, f1, a1, -⟩ := m_goRowE hR hw ha hx (b := b) (v := (p3 (lft ρ x b) - 1) / 2) h1 h2 (by omega) (by omega)
    have hE := rowE_wf (v := (p3 (lft ρ x b) - 1) / 2) hw hx h1 h2
    have ac := a1 b (by omega) (by omega)
    refine ⟨u2, ?_, f1⟩
    rw [m_codes hR hw ha hx h1 h2]
    simp (disch := omega) only [if_pos (And.intro h1 h2), iI_lit, iI_add, iI_sub, iI_mul, iI_neg, Option.bind_some, if_true, if_false, Int.reduceEq, Int.reduceLE, Int.reduceLT, Int.reduceAdd, Int.reduceSub, Int.reduceMul, Int.reduceNeg, Nat.reduceEqDiff, show ¬ iI 1 = iI 0 by decide, dv_i, e1]
    rcases hE.2 with h0 | h0
    · simp only [h0, if_true]
    · simp (disch := omega) only [h0, iI_lit, iI_add, iI_sub, iI_mul, iI_neg, Option.bind_some, if_true, if_false, Int.reduceEq, Int.reduceLE, Int.reduceLT, Int.reduceAdd, Int.reduceSub, Int.reduceMul, Int.reduceNeg, Nat.reduceEqDiff, iI_le, iI_lt, iI_eq, ld_i, sto_i, ac]
  · refine ⟨s, ?_, fr.refl⟩
    simp only [if_neg h, iI_lit, iI_add, iI_sub, iI_mul, iI_neg, Option.bind_some, if_true, if_false, Int.reduceEq, Int.reduceLE, Int.reduceLT, Int.reduceAdd, Int.reduceSub, Int.reduceMul, Int.reduceNeg, Nat.reduceEqDiff]
end M7

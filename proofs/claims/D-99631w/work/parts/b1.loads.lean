/-! LAYER 3: the model's loads and small questions -/
set_option maxRecDepth 100000
theorem comp_tab : ∀ n : Fin 8, ∀ S : Fin 128, S.val < 2 ^ n.val → (iI (2 ^ n.val : Nat) - iI 1) &&& (iI S.val ^^^ iI (-1)) = iI ((2 ^ n.val : Nat) - 1 - S.val) := by decide +kernel
theorem comp_i {n S : Int} (h1 : 0 ≤ n) (h2 : n ≤ 7) (h3 : 0 ≤ S) (h4 : S < pw n) : (iI (pw n) - iI 1) &&& (iI S ^^^ iI (-1)) = iI (pw n - 1 - S) := by
  obtain ⟨m, rfl⟩ : ∃ m : Nat, n = m := ⟨n.toNat, by omega⟩
  obtain ⟨k, rfl⟩ : ∃ k : Nat, S = k := ⟨S.toNat, by omega⟩
  rw [pw_nat] at *
  have hk : k < 2 ^ m := by omega
  have : 2 ^ m ≤ 2 ^ 7 := Nat.pow_le_pow_right (by omega) (by omega)
  exact comp_tab ⟨m, by omega⟩ ⟨k, by omega⟩ hk
/-- a set lies in another -/
abbrev subI (S T : Int) : Prop := iI S &&& (iI T ^^^ iI (-1)) = iI 0
theorem sub_tab : ∀ S T : Fin 128, iI S.val &&& (iI T.val ^^^ iI (-1)) = iI 0 → S.val ≤ T.val := by decide +kernel
theorem sub_le {S T : Int} (h1 : 0 ≤ S) (h2 : S < 128) (h3 : 0 ≤ T) (h4 : T < 128) (h : subI S T) : S ≤ T := by
  obtain ⟨m, rfl⟩ : ∃ m : Nat, S = m := ⟨S.toNat, by omega⟩
  obtain ⟨k, rfl⟩ : ∃ k : Nat, T = k := ⟨T.toNat, by omega⟩
  have := sub_tab ⟨m, by omega⟩ ⟨k, by omega⟩ h
  simp only at this
  omega
def widN (ρ : Rv) (S : Int) : Nat → Int
  | 0 => 0
  | k + 1 => widN ρ S k + (if bit S k = 1 then rLW ρ k else 0)
def wid (ρ : Rv) (S : Int) : Int := widN ρ S (rL ρ).toNat
theorem widN_b {ρ : Rv} (hw : wfR ρ) (S : Int) : ∀ n : Nat, (n : Int) ≤ rL ρ → 0 ≤ widN ρ S n ∧ widN ρ S n ≤ 99 * n := by
  intro n
  induction n with
  | zero => intro _; exact ⟨Int.le_refl _, Int.le_refl _⟩
  | succ n ih =>
    intro hn
    have h1 := ih (by omega)
    have h2 := hw.2.2.2.2.2.2.2.2.2.2.1 n (by omega) (by omega)
    simp only [widN]
    split <;> omega
theorem wid_b {ρ : Rv} (hw : wfR ρ) (S : Int) : 0 ≤ wid ρ S ∧ wid ρ S ≤ 693 := by
  have hl := hw.2.2.2.1
  have := widN_b hw S (rL ρ).toNat (by omega)
  unfold wid
  omega
/-- the widest of the sets from one on: n of them looked at -/
def wstN (ρ : Rv) (x : Int → Int) (b may : Int) : Nat → Int
  | 0 => 0
  | k + 1 => if subI (k + 1) may ∧ burd ρ x b + wid ρ (k + 1) ≤ rBW ρ b ∧ wid ρ (wstN ρ x b may k) < wid ρ (k + 1) then k + 1 else wstN ρ x b may k
/-- the first with the least bearing left -/
def hotN (ρ : Rv) (x : Int → Int) : Nat → Int
  | 0 => -1
  | k + 1 => if hotN ρ x k < 0 then k else if rBB ρ (hotN ρ x k) - x (8 + hotN ρ x k) ≤ rBB ρ k - x (8 + k) then hotN ρ x k else k
def lawN (ρ : Rv) (x : Int → Int) (m : Int) : Nat → Int
  | 0 => 0
  | k + 1 => lawN ρ x m k + (if x (20 + k) = -1 ∧ rLW ρ k ≤ m then 1 else 0)
section B1
variable {ρ : Rv} {s : mS} {x : Int → Int}
theorem m_wideOf (hR : okR ρ s) (hw : wfR ρ) {S : Int} (h1 : 0 ≤ S) (h2 : S < 256) : fm_wideOf s (iI S) = some (iI (wid ρ S)) := by
  have hL := hR.2.2.2.1
  have hlw := hR.2.2.2.2.2.2.2.2.2.2.2.1
  have hl := hw.2.2.2.1
  have hlb := hw.2.2.2.2.2.2.2.2.2.2.1
  have : lp (fm_wideOf_b4 s (iI S)) (0, 0) = some (iI (wid ρ S)) := by
    refine lp_seq (fun i => (iI (widN ρ S i), iI i)) (rL ρ).toNat (fun i hi => ?_) ?_
    · have h3 := hlw i (by omega) (by omega)
      have h4 := bit_01 S i
      simp (disch := omega) only [fm_wideOf_b4, hL, iI_lit, iI_add, iI_sub, iI_mul, iI_neg, Option.bind_some, if_true, if_false, Int.reduceEq, Int.reduceLE, Int.reduceLT, Int.reduceAdd, Int.reduceSub, Int.reduceMul, Int.reduceNeg, Nat.reduceEqDiff, iI_le, iI_lt, iI_eq, ld_i, sto_i, h3, bit_i, widN]
      rw [if_neg (by omega)]
      split <;> rfl
    · simp (disch := omega) only [fm_wideOf_b4, hL, iI_lit, iI_add, iI_sub, iI_mul, iI_neg, Option.bind_some, if_true, if_false, Int.reduceEq, Int.reduceLE, Int.reduceLT, Int.reduceAdd, Int.reduceSub, Int.reduceMul, Int.reduceNeg, Nat.reduceEqDiff, iI_le, iI_lt, iI_eq, ld_i, sto_i]
      rw [if_pos (by omega)]
      rfl
  unfold fm_wideOf
  rw [this]
  rfl
theorem m_isAtBank (hR : okR ρ s) (hw : wfR ρ) (ha : ar s 22 28 x) (hx : wfS ρ x) {b : Int} (h1 : 0 ≤ b) (h2 : b < rB ρ) : fm_isAtBank s (iI b) = some (if x (4 + b) = 0 ∨ x (4 + b) = rR ρ then 1 else 0) := by
  have hb := hw.2.2.1
  have hr := hw.2.1
  have h3 := ha (4 + b) (by omega) (by omega)
  have h4 := hx.1 b h1 h2
  simp (disch := omega) only [fm_isAtBank, iI_lit, iI_add, iI_sub, iI_mul, iI_neg, Option.bind_some, if_true, if_false, Int.reduceEq, Int.reduceLE, Int.reduceLT, Int.reduceAdd, Int.reduceSub, Int.reduceMul, Int.reduceNeg, Nat.reduceEqDiff, iI_le, iI_lt, iI_eq, ld_i, sto_i, h3, hR.2.1]
  by_cases q1 : x (4 + b) = 0
  · rw [if_pos q1, if_pos (Or.inl q1)]
  · rw [if_neg q1]
    by_cases q2 : x (4 + b) = rR ρ
    · rw [if_pos q2, if_pos (Or.inr q2)]
    · rw [if_neg q2, if_neg (by omega)]
theorem m_bankOf {r : Int} (h1 : 0 ≤ r) (h2 : r ≤ 6) : fm_bankOf s (iI r) = some (iI (if r = 0 then -1 else -2)) := by
  simp (disch := omega) only [fm_bankOf, iI_lit, iI_add, iI_sub, iI_mul, iI_neg, Option.bind_some, if_true, if_false, Int.reduceEq, Int.reduceLE, Int.reduceLT, Int.reduceAdd, Int.reduceSub, Int.reduceMul, Int.reduceNeg, Nat.reduceEqDiff, iI_le, iI_lt, iI_eq]
  split <;> rfl
theorem m_widest (hR : okR ρ s) (hw : wfR ρ) (ha : ar s 22 28 x) (hx : wfS ρ x) {b what : Int} (h1 : -2147483648 ≤ b) (h2 : b < 2147483648) (h3 : -2147483648 ≤ what) (h4 : what < 2147483648) : ∃ s', fm_widest s (iI b) (iI what) = some (iI (if (0 ≤ b ∧ b < rB ρ) ∧ (x (4 + b) = 0 ∨ x (4 + b) = rR ρ) ∧ 0 ≤ what ∧ what ≤ 1 then (if what = 0 then wid ρ (wstN ρ x b (atS ρ x (if x (4 + b) = 0 then -1 else -2)) (atS ρ x (if x (4 + b) = 0 then -1 else -2)).toNat) else wstN ρ x b (atS ρ x (if x (4 + b) = 0 then -1 else -2)) (atS ρ x (if x (4 + b) = 0 then -1 else -2)).toNat) else -1), s') ∧ fr [] [23] s s' := by
  unfold fm_widest
  rw [m_isBoard hR hw h1 h2]
  by_cases h : 0 ≤ b ∧ b < rB ρ
  · obtain ⟨h1, h2⟩ := h
    simp only [if_pos (And.intro h1 h2), iI_lit, iI_add, iI_sub, iI_mul, iI_neg, Option.bind_some, if_true, if_false, Int.reduceEq, Int.reduceLE, Int.reduceLT, Int.reduceAdd, Int.reduceSub, Int.reduceMul, Int.reduceNeg, Nat.reduceEqDiff, show ¬ iI 1 = iI 0 by decide]
    rw [m_isAtBank hR hw ha hx h1 h2]
    by_cases q1 : x (4 + b) = 0 ∨ x (4 + b) = rR ρ
    · simp only [if_pos q1, iI_lit, iI_add, iI_sub, iI_mul, iI_neg, Option.bind_some, if_true, if_false, Int.reduceEq, Int.reduceLE, Int.reduceLT, Int.reduceAdd, Int.reduceSub, Int.reduceMul, Int.reduceNeg, Nat.reduceEqDiff, show ¬ iI 1 = iI 0 by decide]
      rw [m_isIn h3 h4 (by omega) (by omega) (by omega) (by omega)]
      by_cases q2 : 0 ≤ what ∧ what ≤ 1
      · have hall : (0 ≤ b ∧ b < rB ρ) ∧ (x (4 + b) = 0 ∨ x (4 + b) = rR ρ) ∧ 0 ≤ what ∧ what ≤ 1 := ⟨⟨h1, h2⟩, q1, q2⟩
        simp only [if_pos q2, if_pos hall, iI_lit, iI_add, iI_sub, iI_mul, iI_neg, Option.bind_some, if_true, if_false, Int.reduceEq, Int.reduceLE, Int.reduceLT, Int.reduceAdd, Int.reduceSub, Int.reduceMul, Int.reduceNeg, Nat.reduceEqDiff, show ¬ iI 1 = iI 0 by decide]
        have hb := hw.2.2.1
        have hr := hw.2.1
        have h6 := hx.1 b h1 h2
        obtain ⟨s1, e1, f1, a1⟩ := m_fill ha
        have hR1 := hR.fr f1 rfl rfl
        have ha1 := f1.ar ha rfl (j := 22)
        have h5 := ha1 (4 + b) (by omega) (by omega)
        have e2 := m_bankOf (s := s1) (r := x (4 + b)) (by omega) (by omega)
        have e3 := m_loadsAt hR1 hw a1 hx (b := if x (4 + b) = 0 then -1 else -2) (by split <;> omega) (by split <;> omega)
        have hab := atS_b hw x (if x (4 + b) = 0 then -1 else -2)
        refine ⟨s1, ?_, f1⟩
        rw [e1]
        simp (disch := omega) only [Option.bind_some, iI_lit, iI_add, iI_sub, iI_mul, iI_neg, Option.bind_some, if_true, if_false, Int.reduceEq, Int.reduceLE, Int.reduceLT, Int.reduceAdd, Int.reduceSub, Int.reduceMul, Int.reduceNeg, Nat.reduceEqDiff, ld_i, sto_i, h5, e2, e3]
        generalize atS ρ x (if x (4 + b) = 0 then -1 else -2) = T at *
        have e4 := m_burdenOf hR1 hw a1 hx (b := b) (by omega) (by omega)
        have hbb := burd_b hw x b
        have h18 : s1.2.2.1 18 b.toNat = iI (rBW ρ b) := hR1.2.2.2.2.2.2.2.2.1 b h1 h2
        have hbw := (hw.2.2.2.2.2.2.2.2.2.1 b h1 h2).1
        have hwst : ∀ k : Nat, (k : Int) ≤ T → 0 ≤ wstN ρ x b T k ∧ wstN ρ x b T k ≤ k := by
          intro k
          induction k with
          | zero => intro _; exact ⟨Int.le_refl _, Int.le_refl _⟩
          | succ k ih =>
            intro hk
            have := ih (by omega)
            simp only [wstN]
            split <;> omega
        have : lp (fm_widest_b54 s1 (iI b) (iI what) (iI T)) (iI 0, iI 1) = some (iI (wstN ρ x b T T.toNat)) := by
          refine lp_seq (fun i => (iI (wstN ρ x b T i), iI ((i : Int) + 1))) T.toNat (fun i hi => ?_) ?_
          · have hwi := hwst i (by omega)
            have e5 := m_wideOf hR1 hw (S := (i : Int) + 1) (by omega) (by omega)
            have e6 := m_wideOf hR1 hw (S := wstN ρ x b T i) (by omega) (by omega)
            have b5 := wid_b hw ((i : Int) + 1)
            have b6 := wid_b hw (wstN ρ x b T i)
            simp (disch := omega) only [fm_widest_b54, iI_lit, iI_add, iI_sub, iI_mul, iI_neg, Option.bind_some, if_true, if_false, Int.reduceEq, Int.reduceLE, Int.reduceLT, Int.reduceAdd, Int.reduceSub, Int.reduceMul, Int.reduceNeg, Nat.reduceEqDiff, iI_le, iI_lt, iI_eq, ld_i, sto_i, e4, e5, e6, h18, wstN]
            rw [if_neg (by omega)]
            by_cases c1 : subI ((i : Int) + 1) T
            · rw [if_pos c1]
              by_cases c2 : rBW ρ b < burd ρ x b + wid ρ ((i : Int) + 1)
              · rw [if_pos c2, if_neg (by omega)]
                rfl
              · rw [if_neg c2]
                by_cases c3 : wid ρ ((i : Int) + 1) ≤ wid ρ (wstN ρ x b T i)
                · rw [if_pos c3, if_neg (by omega)]
                  rfl
                · rw [if_neg c3, if_pos ⟨c1, by omega, by omega⟩]
                  rfl
            · rw [if_neg c1, if_neg (fun z => c1 z.1)]
              rfl
          · simp (disch := omega) only [fm_widest_b54, iI_lit, iI_add, iI_sub, iI_mul, iI_neg, Option.bind_some, if_true, if_false, Int.reduceEq, Int.reduceLE, Int.reduceLT, Int.reduceAdd, Int.reduceSub, Int.reduceMul, Int.reduceNeg, Nat.reduceEqDiff, iI_le, iI_lt, iI_eq]
            rw [if_pos (by omega)]
        rw [this]
        have hwT := hwst T.toNat (by omega)
        simp (disch := omega) only [Option.bind_some, iI_le, iI_lt, iI_eq, m_wideOf hR1 hw (S := wstN ρ x b T T.toNat) (by omega) (by omega)]
        split <;> rfl
      · refine ⟨s, ?_, fr.refl⟩
        simp only [if_neg q2, if_neg (show ¬ ((0 ≤ b ∧ b < rB ρ) ∧ (x (4 + b) = 0 ∨ x (4 + b) = rR ρ) ∧ 0 ≤ what ∧ what ≤ 1) from fun z => q2 z.2.2), iI_lit, iI_add, iI_sub, iI_mul, iI_neg, Option.bind_some, if_true, if_false, Int.reduceEq, Int.reduceLE, Int.reduceLT, Int.reduceAdd, Int.reduceSub, Int.reduceMul, Int.reduceNeg, Nat.reduceEqDiff]
    · refine ⟨s, ?_, fr.refl⟩
      simp only [if_neg q1, if_neg (show ¬ ((0 ≤ b ∧ b < rB ρ) ∧ (x (4 + b) = 0 ∨ x (4 + b) = rR ρ) ∧ 0 ≤ what ∧ what ≤ 1) from fun z => q1 z.2.1), iI_lit, iI_add, iI_sub, iI_mul, iI_neg, Option.bind_some, if_true, if_false, Int.reduceEq, Int.reduceLE, Int.reduceLT, Int.reduceAdd, Int.reduceSub, Int.reduceMul, Int.reduceNeg, Nat.reduceEqDiff]
  · refine ⟨s, ?_, fr.refl⟩
    simp only [if_neg h, if_neg (show ¬ ((0 ≤ b ∧ b < rB ρ) ∧ (x (4 + b) = 0 ∨ x (4 + b) = rR ρ) ∧ 0 ≤ what ∧ what ≤ 1) from fun z => h z.1), iI_lit, iI_add, iI_sub, iI_mul, iI_neg, Option.bind_some, if_true, if_false, Int.reduceEq, Int.reduceLE, Int.reduceLT, Int.reduceAdd, Int.reduceSub, Int.reduceMul, Int.reduceNeg, Nat.reduceEqDiff]
theorem m_over (hR : okR ρ s) (hw : wfR ρ) (ha : ar s 22 28 x) (hx : wfS ρ x) : ∃ s', fm_over s = some (iI (atS ρ x (-2)), s') ∧ fr [] [23] s s' := by
  obtain ⟨s1, e1, f1, a1⟩ := m_fill ha
  have e3 := m_loadsAt (hR.fr f1 rfl rfl) hw a1 hx (b := -2) (by omega) (by omega)
  refine ⟨s1, ?_, f1⟩
  unfold fm_over
  rw [e1]
  simp only [iI_lit, iI_add, iI_sub, iI_mul, iI_neg, Option.bind_some, if_true, if_false, Int.reduceEq, Int.reduceLE, Int.reduceLT, Int.reduceAdd, Int.reduceSub, Int.reduceMul, Int.reduceNeg, Nat.reduceEqDiff, e3]
theorem m_nearLoads (hR : okR ρ s) (hw : wfR ρ) (ha : ar s 22 28 x) (hx : wfS ρ x) : ∃ s', fm_nearLoads s = some (iI (atS ρ x (-1)), s') ∧ fr [] [23] s s' := by
  obtain ⟨s1, e1, f1, a1⟩ := m_fill ha
  have e3 := m_loadsAt (hR.fr f1 rfl rfl) hw a1 hx (b := -1) (by omega) (by omega)
  refine ⟨s1, ?_, f1⟩
  unfold fm_nearLoads
  rw [e1]
  simp only [iI_lit, iI_add, iI_sub, iI_mul, iI_neg, Option.bind_some, if_true, if_false, Int.reduceEq, Int.reduceLE, Int.reduceLT, Int.reduceAdd, Int.reduceSub, Int.reduceMul, Int.reduceNeg, Nat.reduceEqDiff, e3]
theorem atS_pw (x : Int → Int) (w : Int) (hw : wfR ρ) : atS ρ x w < pw (rL ρ) := by
  have h := setP_b (fun l => decide (x (20 + l) = w)) (rL ρ).toNat
  have hl := hw.2.2.2.1
  rw [show (((rL ρ).toNat : Nat) : Int) = rL ρ by omega] at h
  exact h.2
theorem m_left (hR : okR ρ s) (hw : wfR ρ) (ha : ar s 22 28 x) (hx : wfS ρ x) : ∃ s', fm_left s = some (iI (wid ρ (pw (rL ρ) - 1 - atS ρ x (-2))), s') ∧ fr [] [23] s s' := by
  obtain ⟨s1, e1, f1, a1⟩ := m_fill ha
  have hR1 := hR.fr f1 rfl rfl
  have e3 := m_loadsAt hR1 hw a1 hx (b := -2) (by omega) (by omega)
  have hl := hw.2.2.2.1
  have hab := atS_b hw x (-2)
  have hap := atS_pw x (-2) hw
  have hpb : pw (rL ρ) ≤ 256 := by
    have := pw7 (n := (rL ρ).toNat) (by omega)
    rwa [show (((rL ρ).toNat : Nat) : Int) = rL ρ by omega] at this
  refine ⟨s1, ?_, f1⟩
  unfold fm_left
  rw [e1]
  simp only [Option.bind_some]
  rw [show (-2 : Int32) = iI (-2) from rfl, e3]
  simp only [Option.bind_some, hR1.2.2.2.1]
  rw [i1, show (31 : Int32) = iI 31 from iI_lit 31, shl_i hl.1 (by omega), show (-iI 1) = iI (-1) from rfl, comp_i hl.1 hl.2 hab.1 hap, m_wideOf hR1 hw (by omega) (by omega)]
  rfl
def pullP (ρ : Rv) (x : Int → Int) (b : Int) : Bool := decide (0 < rCu ρ (8 * x (4 + b) + x b))
theorem m_pulled (hR : okR ρ s) (hw : wfR ρ) (ha : ar s 22 28 x) (hx : wfS ρ x) : fm_pulled s = some (iI (setP (pullP ρ x) (rB ρ).toNat)) := by
  have hb := hw.2.2.1
  have hr := hw.2.1
  have hC := hw.1
  have hcu := hw.2.2.2.2.2.2.1
  have : lp (fm_pulled_b4 s) (0, 0) = some (iI (setP (pullP ρ x) (rB ρ).toNat)) := by
    refine lp_seq (fun i => (iI (setP (pullP ρ x) i), iI i)) (rB ρ).toNat (fun i hi => ?_) ?_
    · have h1 := ha i (by omega) (by omega)
      have h2 := ha (4 + i) (by omega) (by omega)
      have h4 := hx.1 i (by omega) (by omega)
      have h3 := setP_b (pullP ρ x) i
      have e1 := m_currentAt hR (c := x i) (r := x (4 + i)) (by omega) (by omega)
      have h5 := hcu (8 * x (4 + i) + x i) (by omega) (by omega)
      simp (disch := omega) only [fm_pulled_b4, fm_pulled_j39, m_truth, hR.2.2.1, iI_lit, iI_add, iI_sub, iI_mul, iI_neg, Option.bind_some, if_true, if_false, Int.reduceEq, Int.reduceLE, Int.reduceLT, Int.reduceAdd, Int.reduceSub, Int.reduceMul, Int.reduceNeg, Nat.reduceEqDiff, iI_le, iI_lt, iI_eq, ld_i, sto_i, h1, h2, e1, setP]
      rw [if_neg (by omega)]
      by_cases hc : rCu ρ (8 * x (4 + i) + x i) ≤ 0
      · rw [if_pos hc, zero_shl, or_zero, if_neg (by unfold pullP; simp only [decide_eq_true_eq]; omega), Int.add_zero]
        rfl
      · rw [if_neg hc, or_i (by omega) (by omega) h3.1 h3.2, if_pos (by unfold pullP; simp only [decide_eq_true_eq]; omega)]
        rfl
    · simp (disch := omega) only [fm_pulled_b4, hR.2.2.1, iI_lit, iI_add, iI_sub, iI_mul, iI_neg, Option.bind_some, if_true, if_false, Int.reduceEq, Int.reduceLE, Int.reduceLT, Int.reduceAdd, Int.reduceSub, Int.reduceMul, Int.reduceNeg, Nat.reduceEqDiff, iI_le, iI_lt, iI_eq, ld_i, sto_i]
      rw [if_pos (by omega)]
  unfold fm_pulled
  rw [this]
  rfl
theorem hotN_b (ρ : Rv) (x : Int → Int) (k : Nat) : -1 ≤ hotN ρ x k ∧ hotN ρ x k < k := by
  induction k with
  | zero => exact ⟨Int.le_refl _, by show (-1 : Int) < 0; omega⟩
  | succ k ih =>
    simp only [hotN]
    split
    · omega
    · split <;> omega
theorem m_hottest (hR : okR ρ s) (hw : wfR ρ) (ha : ar s 22 28 x) (hx : wfS ρ x) : fm_hottest s = some (iI (hotN ρ x (rB ρ).toNat)) := by
  have hb := hw.2.2.1
  have hbe := hR.2.2.2.2.2.2.2.2.2.2.1
  have hbw := hw.2.2.2.2.2.2.2.2.2.1
  have : lp (fm_hottest_b4 s) (-1, 0) = some (iI (hotN ρ x (rB ρ).toNat)) := by
    refine lp_seq (fun i => (iI (hotN ρ x i), iI i)) (rB ρ).toNat (fun i hi => ?_) ?_
    · have hh := hotN_b ρ x i
      have h1 := hbe i (by omega) (by omega)
      have h2 := ha (8 + i) (by omega) (by omega)
      have h3 := (hbw i (by omega) (by omega)).2.2
      have h4 := (hx.1 i (by omega) (by omega)).2.2.1
      simp only [hotN]
      by_cases hn : hotN ρ x i < 0
      · simp (disch := omega) only [fm_hottest_b4, hR.2.2.1, iI_lit, iI_add, iI_sub, iI_mul, iI_neg, Option.bind_some, if_true, if_false, Int.reduceEq, Int.reduceLE, Int.reduceLT, Int.reduceAdd, Int.reduceSub, Int.reduceMul, Int.reduceNeg, Nat.reduceEqDiff, iI_le, iI_lt, iI_eq, if_pos hn]
        rw [if_neg (by omega)]
        rfl
      · have h5 := hbe (hotN ρ x i) (by omega) (by omega)
        have h6 := ha (8 + hotN ρ x i) (by omega) (by omega)
        have h7 := (hbw (hotN ρ x i) (by omega) (by omega)).2.2
        have h8 := (hx.1 (hotN ρ x i) (by omega) (by omega)).2.2.1
        simp (disch := omega) only [fm_hottest_b4, hR.2.2.1, iI_lit, iI_add, iI_sub, iI_mul, iI_neg, Option.bind_some, if_true, if_false, Int.reduceEq, Int.reduceLE, Int.reduceLT, Int.reduceAdd, Int.reduceSub, Int.reduceMul, Int.reduceNeg, Nat.reduceEqDiff, iI_le, iI_lt, iI_eq, ld_i, sto_i, if_neg hn, h1, h2, h5, h6]
        rw [if_neg (by omega)]
        split <;> rfl
    · simp (disch := omega) only [fm_hottest_b4, hR.2.2.1, iI_lit, iI_add, iI_sub, iI_mul, iI_neg, Option.bind_some, if_true, if_false, Int.reduceEq, Int.reduceLE, Int.reduceLT, Int.reduceAdd, Int.reduceSub, Int.reduceMul, Int.reduceNeg, Nat.reduceEqDiff, iI_le, iI_lt, iI_eq]
      rw [if_pos (by omega)]
  unfold fm_hottest
  rw [this]
  rfl
end B1

/-! LAYER 3: the model's straight, singe, odds -/
set_option maxRecDepth 100000
/-- strokes by any steers, any floods -/
def genR (ρ : Rv) (x : Int → Int) (b : Int) (t f : Int → Int) : Nat → Int × (Int → Int)
  | 0 => (1, x)
  | k + 1 => if (genR ρ x b t f k).1 = 0 then genR ρ x b t f k else (if strV ρ (genR ρ x b t f k).2 b (t k) 1 (f k) % 2 = 0 then 1 else 0, strS ρ (genR ρ x b t f k).2 b (t k) 1 (f k))
section GEN
variable {ρ : Rv} {x : Int → Int} {b : Int} {t f : Int → Int}
theorem genR_01 (k : Nat) : (genR ρ x b t f k).1 = 0 ∨ (genR ρ x b t f k).1 = 1 := by
  induction k with
  | zero => exact Or.inr rfl
  | succ k ih =>
    simp only [genR]
    split
    · exact ih
    · simp only
      split
      · exact Or.inr rfl
      · exact Or.inl rfl
theorem genR_stop (i j : Nat) (h0 : (genR ρ x b t f i).1 = 0) : genR ρ x b t f (i + j) = genR ρ x b t f i := by
  induction j with
  | zero => rfl
  | succ j ih =>
    show genR ρ x b t f (i + j + 1) = _
    simp only [genR]
    rw [ih, if_pos h0]
theorem genR_wf (hw : wfR ρ) (hx : wfS ρ x) (h1 : 0 ≤ b) (h2 : b < rB ρ) (k : Nat) (hk : (k : Int) ≤ rR ρ - x (4 + b)) : wfS ρ (genR ρ x b t f k).2 ∧ ((genR ρ x b t f k).1 = 1 → (genR ρ x b t f k).2 (4 + b) = x (4 + b) + k) ∧ (∀ z, 20 ≤ z → (genR ρ x b t f k).2 z = x z) := by
  induction k with
  | zero => exact ⟨hx, fun _ => by show x (4 + b) = _; omega, fun z _ => rfl⟩
  | succ k ih =>
    obtain ⟨i1, i2, i3⟩ := ih (by omega)
    have hbb := hw.2.2.1
    have hx1 := hx.1 b h1 h2
    simp only [genR]
    split
    · rename_i h0
      exact ⟨i1, fun h => by rw [h0] at h; omega, i3⟩
    · rename_i h0
      have hr := i2 (by have := genR_01 (ρ := ρ) (x := x) (b := b) (t := t) (f := f) k; omega)
      have h7 : 0 ≤ (genR ρ x b t f k).2 (4 + b) + 1 := by omega
      have h8 : (genR ρ x b t f k).2 (4 + b) + 1 ≤ rR ρ := by omega
      refine ⟨wfS_str hw i1 h1 h2 h7 h8, fun h => ?_, fun z hz => ?_⟩
      · simp only at h ⊢
        rw [str_row h1 (by omega)]
        obtain ⟨e, e2⟩ := strV_b (t := t k) (k := f k) hw i1 h1 h2 h7 h8
        rw [e] at h
        rcases e2 with e2 | e2
        · rw [if_pos e2, hr]; omega
        · rw [e2] at h
          split at h <;> (split at h <;> omega)
      · simp only
        rw [str_else h1 (by omega) (by omega) (by omega) (by omega) (by omega) (by omega)]
        exact i3 z hz
theorem strV_r (hw : wfR ρ) (hx : wfS ρ x) (h1 : 0 ≤ b) (h2 : b < rB ρ) {tt on k : Int} (h7 : 0 ≤ x (4 + b) + on) (h8 : x (4 + b) + on ≤ rR ρ) : 0 ≤ strV ρ x b tt on k ∧ strV ρ x b tt on k ≤ 3 := by
  obtain ⟨e, e2⟩ := strV_b (t := tt) (k := k) hw hx h1 h2 h7 h8
  rw [e]
  split <;> omega
end GEN
def strtV (ρ : Rv) (x : Int → Int) (b to : Int) : Int := let p := bestN (strC ρ x b to) (p3 (lft ρ x b)).toNat; if p.2 < 0 then -1 else p.1
def sng (ρ : Rv) (b : Int) : Nat → (Int → Int) → Int → Int
  | 0, _, _ => -1
  | k + 1, y, n => if strV ρ y b 0 1 1 = 0 then sng ρ b k (strS ρ y b 0 1 1) (n + 1) else if strV ρ y b 0 1 1 = 2 then n else -1
section M9
variable {ρ : Rv} {s : mS} {x : Int → Int}
theorem strC_b (hw : wfR ρ) (hx : wfS ρ x) {b to : Int} (h1 : 0 ≤ b) (h2 : b < rB ρ) (v : Int) : strC ρ x b to v < 1000000 ∧ ((rowE ρ x b v).1 = 0 → strC ρ x b to v = -1) ∧ ((rowE ρ x b v).1 = 1 → (rowE ρ x b v).2 b ≠ to → strC ρ x b to v = -1) ∧ ((rowE ρ x b v).1 = 1 → (rowE ρ x b v).2 b = to → strC ρ x b to v = turnN v (lft ρ x b) (lft ρ x b).toNat) := by
  have h3 := lft_b hw hx h1 h2
  have h4 := turnN_b v (lft ρ x b) (lft ρ x b).toNat
  unfold strC
  refine ⟨?_, fun h => by rw [if_pos h], fun h h' => by rw [if_neg (by omega), if_neg h'], fun h h' => by rw [if_neg (by omega), if_pos h']⟩
  repeat' split
  all_goals omega
theorem m_turned {v n : Int} (h1 : 0 ≤ n) (h2 : n ≤ 6) (h25 : ar s 25 n (dig v n)) : fm_turned s (iI n) = some (iI (turnN v n n.toNat)) := by
  have : lp (fm_turned_b4 s (iI n)) (0, 0) = some (iI (turnN v n n.toNat)) := by
    refine lp_seq (fun i => (iI (turnN v n i), iI i)) n.toNat (fun i hi => ?_) ?_
    · have hd := h25 i (by omega) (by omega)
      have hb := dig_b v n i
      simp (disch := omega) only [fm_turned_b4, m_truth, iI_lit, iI_add, iI_sub, iI_mul, iI_neg, Option.bind_some, if_true, if_false, Int.reduceEq, Int.reduceLE, Int.reduceLT, Int.reduceAdd, Int.reduceSub, Int.reduceMul, Int.reduceNeg, Nat.reduceEqDiff, iI_le, iI_lt, iI_eq, ld_i, sto_i, hd, turnN]
      rw [if_neg (by omega)]
      split <;> rfl
    · simp (disch := omega) only [fm_turned_b4, iI_lit, iI_add, iI_sub, iI_mul, iI_neg, Option.bind_some, if_true, if_false, Int.reduceEq, Int.reduceLE, Int.reduceLT, Int.reduceAdd, Int.reduceSub, Int.reduceMul, Int.reduceNeg, Nat.reduceEqDiff, iI_le, iI_lt, iI_eq]
      rw [if_pos (by omega)]
  unfold fm_turned
  rw [this]
  rfl
theorem m_straight (hR : okR ρ s) (hw : wfR ρ) (ha : ar s 22 28 x) (hx : wfS ρ x) {b to : Int} (h1 : -2147483648 ≤ b) (h2 : b < 2147483648) (h3 : -2147483648 ≤ to) (h4 : to < 2147483648) : ∃ s', fm_straight s (iI b) (iI to) = some (iI (if (0 ≤ b ∧ b < rB ρ) ∧ 0 ≤ to ∧ to ≤ rC ρ - 1 then strtV ρ x b to else -1), s') ∧ fr [61] [8, 9, 23, 25, 26] s s' ∧ (if (0 ≤ b ∧ b < rB ρ) ∧ 0 ≤ to ∧ to ≤ rC ρ - 1 then laidOk (lft ρ x b) (bestN (strC ρ x b to) (p3 (lft ρ x b)).toNat).2 s' else s'.1 61 = iI 0) := by
  have f0 : fr [61] [8, 9, 23, 25, 26] s (mSi s 61 (iI 0)) := fr.refl.si rfl
  have hR0 := hR.fr f0 rfl rfl
  have ha0 := f0.ar ha rfl
  have hC := hw.1
  unfold fm_straight
  simp only [pI, iI_lit, iI_add, iI_sub, iI_mul, iI_neg, Option.bind_some, if_true, if_false, Int.reduceEq, Int.reduceLE, Int.reduceLT, Int.reduceAdd, Int.reduceSub, Int.reduceMul, Int.reduceNeg, Nat.reduceEqDiff]
  rw [m_isBoard hR0 hw h1 h2]
  by_cases h : 0 ≤ b ∧ b < rB ρ
  · obtain ⟨h1, h2⟩ := h
    simp only [if_pos (And.intro h1 h2), iI_lit, iI_add, iI_sub, iI_mul, iI_neg, Option.bind_some, if_true, if_false, Int.reduceEq, Int.reduceLE, Int.reduceLT, Int.reduceAdd, Int.reduceSub, Int.reduceMul, Int.reduceNeg, Nat.reduceEqDiff, show ¬ iI 1 = iI 0 by decide, and_self, true_and, hR0.1]
    rw [m_isIn h3 h4 (by omega) (by omega) (by omega) (by omega)]
    by_cases hq : 0 ≤ to ∧ to ≤ rC ρ - 1
    · have h5 := lft_b hw hx h1 h2
      have hp := p3_le h5.2
      have hp0 := p3_pos (lft ρ x b)
      have hb := hw.2.2.1
      have hcb := strC_b (to := to) hw hx h1 h2
      have : ∃ r, lp (fm_straight_b36 (iI b) (iI to)) (iI 1000000, iI 0, mSi s 61 (iI 0)) = some r ∧ (r.1 = iI (bestN (strC ρ x b to) (p3 (lft ρ x b)).toNat).1 ∧ fr [61] [8, 9, 23, 25, 26] s r.2 ∧ laidOk (lft ρ x b) (bestN (strC ρ x b to) (p3 (lft ρ x b)).toNat).2 r.2) := by
        refine lp_inv (fun i q => q.1 = iI (bestN (strC ρ x b to) i).1 ∧ q.2.1 = iI i ∧ fr [61] [8, 9, 23, 25, 26] s q.2.2 ∧ laidOk (lft ρ x b) (bestN (strC ρ x b to) i).2 q.2.2) (p3 (lft ρ x b)).toNat ?_ ?_ ⟨rfl, rfl, f0, Or.inl ⟨rfl, rfl⟩⟩
        · rintro i ⟨a, d, u⟩ hi ⟨g1, g3, g4, g5⟩
          simp only at g1 g3 g4 g5
          subst g1 g3
          have hRu := hR.fr g4 rfl rfl
          have hau := g4.ar ha rfl
          obtain ⟨u2, e1, f1, a1, d1⟩ := m_goRowE hRu hw hau hx (b := b) (v := i) h1 h2 (by omega) (by omega)
          have hR2 := hRu.fr f1 rfl rfl
          have ha2 := f1.ar hau rfl
          have hE := rowE_wf (v := i) hw hx h1 h2
          have hEb := hE.1.1 b h1 h2
          obtain ⟨c2, c3, c4, c5⟩ := hcb i
          have hbk := bestN_ok (fun k : Nat => (hcb k).1) i
          have q0 := a1 b (by omega) (by omega)
          have e2 : fm_leftOf u2 (iI b) = some (iI (lft ρ x b)) := m_leftOf hR2 ha2 h1 (by omega)
          have e3 := m_turned h5.1 h5.2 d1
          have htb := turnN_b i (lft ρ x b) (lft ρ x b).toNat
          left
          unfold fm_straight_b36
          rw [m_codes hRu hw hau hx h1 h2]
          have keep : bestN (strC ρ x b to) (i + 1) = bestN (strC ρ x b to) i → (∃ s', some (Sum.inl (iI (bestN (strC ρ x b to) i).1, iI ((i : Int) + 1), u2) : (Int32 × Int32 × mS) ⊕ (Int32 × mS)) = some (.inl s') ∧ s'.1 = iI (bestN (strC ρ x b to) (i + 1)).1 ∧ s'.2.1 = iI (i + 1 : Nat) ∧ fr [61] [8, 9, 23, 25, 26] s s'.2.2 ∧ laidOk (lft ρ x b) (bestN (strC ρ x b to) (i + 1)).2 s'.2.2) := by
            intro hk
            rw [hk]
            exact ⟨_, rfl, rfl, rfl, g4.trans (f1.mono rfl rfl), g5.fr f1⟩
          rcases hE.2 with h0 | h0
          · have hb1 : bestN (strC ρ x b to) (i + 1) = bestN (strC ρ x b to) i := by
              simp only [bestN]
              rw [if_neg (by have := c3 h0; omega)]
            have := keep hb1
            simp (disch := omega) only [iI_lit, iI_add, iI_sub, iI_mul, iI_neg, Option.bind_some, if_true, if_false, Int.reduceEq, Int.reduceLE, Int.reduceLT, Int.reduceAdd, Int.reduceSub, Int.reduceMul, Int.reduceNeg, Nat.reduceEqDiff, iI_le, iI_lt, iI_eq, e1, h0]
            rw [if_neg (by omega)]
            exact this
          · by_cases hto : (rowE ρ x b i).2 b = to
            · have c6 := c5 h0 hto
              by_cases hlt : turnN i (lft ρ x b) (lft ρ x b).toNat < (bestN (strC ρ x b to) i).1
              · have hb1 : bestN (strC ρ x b to) (i + 1) = (strC ρ x b to i, (i : Int)) := by
                  simp only [bestN]
                  rw [if_pos ⟨by omega, by omega⟩]
                rw [hb1]
                obtain ⟨u3, e4, f3, l1, l2⟩ := m_putSteers hR2 hw ha2 hx h1 h2 d1
                refine ⟨(iI (strC ρ x b to i), iI ((i : Int) + 1), u3), ?_, rfl, rfl, (g4.trans (f1.mono rfl rfl)).trans (f3.mono rfl rfl), Or.inr ⟨by simp only; omega, l1, l2⟩⟩
                simp (disch := omega) only [iI_lit, iI_add, iI_sub, iI_mul, iI_neg, Option.bind_some, if_true, if_false, Int.reduceEq, Int.reduceLE, Int.reduceLT, Int.reduceAdd, Int.reduceSub, Int.reduceMul, Int.reduceNeg, Nat.reduceEqDiff, iI_le, iI_lt, iI_eq, ld_i, sto_i, e1, h0, q0, e2, e3, e4, if_pos hto, if_pos hlt, c6]
                rw [if_neg (by omega)]
              · have hb1 : bestN (strC ρ x b to) (i + 1) = bestN (strC ρ x b to) i := by
                  simp only [bestN]
                  rw [if_neg (by omega)]
                have := keep hb1
                simp (disch := omega) only [iI_lit, iI_add, iI_sub, iI_mul, iI_neg, Option.bind_some, if_true, if_false, Int.reduceEq, Int.reduceLE, Int.reduceLT, Int.reduceAdd, Int.reduceSub, Int.reduceMul, Int.reduceNeg, Nat.reduceEqDiff, iI_le, iI_lt, iI_eq, ld_i, sto_i, e1, h0, q0, e2, e3, if_pos hto, if_neg hlt]
                rw [if_neg (by omega)]
                exact this
            · have hb1 : bestN (strC ρ x b to) (i + 1) = bestN (strC ρ x b to) i := by
                simp only [bestN]
                rw [if_neg (by have := c4 h0 hto; omega)]
              have := keep hb1
              simp (disch := omega) only [iI_lit, iI_add, iI_sub, iI_mul, iI_neg, Option.bind_some, if_true, if_false, Int.reduceEq, Int.reduceLE, Int.reduceLT, Int.reduceAdd, Int.reduceSub, Int.reduceMul, Int.reduceNeg, Nat.reduceEqDiff, iI_le, iI_lt, iI_eq, ld_i, sto_i, e1, h0, q0, if_neg hto]
              rw [if_neg (by omega)]
              exact this
        · rintro ⟨a, d, u⟩ ⟨g1, g3, g4, g5⟩
          simp only at g1 g3 g4 g5
          subst g1 g3
          have hRu := hR.fr g4 rfl rfl
          have hau := g4.ar ha rfl
          refine ⟨(iI (bestN (strC ρ x b to) (p3 (lft ρ x b)).toNat).1, u), ?_, rfl, g4, g5⟩
          unfold fm_straight_b36
          rw [m_codes hRu hw hau hx h1 h2]
          simp (disch := omega) only [iI_lit, iI_add, iI_sub, iI_mul, iI_neg, Option.bind_some, if_true, if_false, Int.reduceEq, Int.reduceLE, Int.reduceLT, Int.reduceAdd, Int.reduceSub, Int.reduceMul, Int.reduceNeg, Nat.reduceEqDiff, iI_le, iI_lt, iI_eq]
          rw [if_pos (by omega)]
      obtain ⟨⟨r1, r3⟩, e, g1, g3, g4⟩ := this
      simp only at g1 g3 g4
      subst g1
      have hbk := bestN_ok (fun k : Nat => (hcb k).1) (p3 (lft ρ x b)).toNat
      have hall : (0 ≤ b ∧ b < rB ρ) ∧ 0 ≤ to ∧ to ≤ rC ρ - 1 := ⟨⟨h1, h2⟩, hq⟩
      refine ⟨r3, ?_, g3, by rw [if_pos hall]; exact g4⟩
      simp only [if_pos hq, if_pos hall, iI_lit, iI_add, iI_sub, iI_mul, iI_neg, Option.bind_some, if_true, if_false, Int.reduceEq, Int.reduceLE, Int.reduceLT, Int.reduceAdd, Int.reduceSub, Int.reduceMul, Int.reduceNeg, Nat.reduceEqDiff, show ¬ iI 1 = iI 0 by decide]
      rw [e]
      unfold strtV
      simp only [Option.bind_some]
      rcases hbk with ⟨k1, k2⟩ | ⟨k1, k2, k3, k4, k5⟩
      · rw [k1, k2]
        simp only [iI_lit, iI_add, iI_sub, iI_mul, iI_neg, Option.bind_some, if_true, if_false, Int.reduceEq, Int.reduceLE, Int.reduceLT, Int.reduceAdd, Int.reduceSub, Int.reduceMul, Int.reduceNeg, Nat.reduceEqDiff, show (-1 : Int) < 0 by omega]
      · have hne : ¬ (bestN (strC ρ x b to) (p3 (lft ρ x b)).toNat).2 < 0 := by omega
        have hne2 : ¬ (bestN (strC ρ x b to) (p3 (lft ρ x b)).toNat).1 = 1000000 := by omega
        simp (disch := omega) only [iI_lit, iI_add, iI_sub, iI_mul, iI_neg, Option.bind_some, if_true, if_false, Int.reduceEq, Int.reduceLE, Int.reduceLT, Int.reduceAdd, Int.reduceSub, Int.reduceMul, Int.reduceNeg, Nat.reduceEqDiff, iI_le, iI_lt, iI_eq, if_neg hne, if_neg hne2]
    · refine ⟨mSi s 61 (iI 0), ?_, f0, by rw [if_neg (by omega)]; rfl⟩
      rw [if_neg (show ¬ ((0 ≤ b ∧ b < rB ρ) ∧ 0 ≤ to ∧ to ≤ rC ρ - 1) by omega)]
      simp only [if_neg hq, iI_lit, iI_add, iI_sub, iI_mul, iI_neg, Option.bind_some, if_true, if_false, Int.reduceEq, Int.reduceLE, Int.reduceLT, Int.reduceAdd, Int.reduceSub, Int.reduceMul, Int.reduceNeg, Nat.reduceEqDiff]
  · refine ⟨mSi s 61 (iI 0), ?_, f0, by rw [if_neg (by omega)]; rfl⟩
    rw [if_neg (show ¬ ((0 ≤ b ∧ b < rB ρ) ∧ 0 ≤ to ∧ to ≤ rC ρ - 1) by omega)]
    simp only [if_neg h, iI_lit, iI_add, iI_sub, iI_mul, iI_neg, Option.bind_some, if_true, if_false, Int.reduceEq, Int.reduceLE, Int.reduceLT, Int.reduceAdd, Int.reduceSub, Int.reduceMul, Int.reduceNeg, Nat.reduceEqDiff]
theorem m_singeLoop (hR : okR ρ s) (hw : wfR ρ) (ha : ar s 22 28 x) (hx : wfS ρ x) {b : Int} (h1 : 0 ≤ b) (h2 : b < rB ρ) : ∀ (j : Nat) (u : mS) (y : Int → Int) (n : Int), fr [] [8, 9, 23] s u → ar u 23 28 y → wfS ρ y → n + j = lft ρ x b + 1 → 1 ≤ n → y (4 + b) = x (4 + b) + n - 1 → ∃ r, lp (fm_singe_b16 (iI b)) (iI n, u) = some r ∧ ∃ s', Sum.elim (fun q => (iI (-1), q)) id r = (iI (sng ρ b j y n), s') ∧ fr [] [8, 9, 23] s s' := by
  have h5 := lft_b hw hx h1 h2
  have hb := hw.2.2.1
  intro j
  induction j with
  | zero =>
    intro u y n hf hay hy hn hn1 hrow
    have hRu := hR.fr hf rfl rfl
    have e1 : fm_leftOf u (iI b) = some (iI (lft ρ x b)) := m_leftOf hRu (hf.ar ha rfl) h1 (by omega)
    refine ⟨.inl u, lp_out ?_, u, rfl, hf⟩
    simp (disch := omega) only [fm_singe_b16, e1, iI_lit, iI_add, iI_sub, iI_mul, iI_neg, Option.bind_some, if_true, if_false, Int.reduceEq, Int.reduceLE, Int.reduceLT, Int.reduceAdd, Int.reduceSub, Int.reduceMul, Int.reduceNeg, Nat.reduceEqDiff, iI_le, iI_lt, iI_eq]
    rw [if_pos (by omega)]
  | succ j ih =>
    intro u y n hf hay hy hn hn1 hrow
    have hRu := hR.fr hf rfl rfl
    have e1 : fm_leftOf u (iI b) = some (iI (lft ρ x b)) := m_leftOf hRu (hf.ar ha rfl) h1 (by omega)
    have hrr : lft ρ x b = rR ρ - x (4 + b) := rfl
    have hx1 := hx.1 b h1 h2
    obtain ⟨u2, e2, f2, a2⟩ := m_goStroke hRu hw hay hy (t := 0) (on := 1) (k := 1) h1 h2 (by omega) (by omega) (by omega) (by omega) (by omega) (by omega)
    have hvr := strV_r (tt := 0) (on := 1) (k := 1) hw hy h1 h2 (by omega) (by omega)
    have hvb := strV_b (t := 0) (on := 1) (k := 1) hw hy h1 h2 (by omega) (by omega)
    have hwy := wfS_str (t := 0) (on := 1) (k := 1) hw hy h1 h2 (by omega) (by omega)
    have hbody : fm_singe_b16 (iI b) (iI n, u) = if strV ρ y b 0 1 1 % 2 = 1 then some (.inr (.inr (iI (-1), u2))) else if strV ρ y b 0 1 1 = 2 then some (.inr (.inr (iI n, u2))) else some (.inl (iI (n + 1), u2)) := by
      simp (disch := omega) only [fm_singe_b16, e1, iI_lit, iI_add, iI_sub, iI_mul, iI_neg, Option.bind_some, if_true, if_false, Int.reduceEq, Int.reduceLE, Int.reduceLT, Int.reduceAdd, Int.reduceSub, Int.reduceMul, Int.reduceNeg, Nat.reduceEqDiff, iI_le, iI_lt, iI_eq, e2, rm_i]
      rw [if_neg (by omega)]
    simp only [sng]
    by_cases v0 : strV ρ y b 0 1 1 = 0
    · rw [if_pos v0]
      rw [if_neg (by omega), if_neg (by omega)] at hbody
      have hH : strH ρ y b 0 1 1 = 0 := by
        obtain ⟨q1, q2⟩ := hvb
        rw [q1] at v0
        split at v0 <;> omega
      obtain ⟨r, er, s', es, fs⟩ := ih u2 (strS ρ y b 0 1 1) (n + 1) (hf.trans f2) a2 hwy (by omega) (by omega) (by rw [str_row h1 (by omega), if_pos hH]; omega)
      exact ⟨r, by rw [lp_back hbody]; exact er, s', es, fs⟩
    · rw [if_neg v0]
      by_cases v2 : strV ρ y b 0 1 1 = 2
      · rw [if_pos v2]
        rw [if_neg (by omega), if_pos v2] at hbody
        exact ⟨_, lp_out hbody, u2, rfl, hf.trans f2⟩
      · rw [if_neg v2]
        rw [if_pos (by omega)] at hbody
        exact ⟨_, lp_out hbody, u2, rfl, hf.trans f2⟩
theorem m_singe (hR : okR ρ s) (hw : wfR ρ) (ha : ar s 22 28 x) (hx : wfS ρ x) {b : Int} (h1 : -2147483648 ≤ b) (h2 : b < 2147483648) : ∃ s', fm_singe s (iI b) = some (iI (if 0 ≤ b ∧ b < rB ρ then sng ρ b (lft ρ x b).toNat x 1 else -1), s') ∧ fr [] [8, 9, 23] s s' := by
  unfold fm_singe
  rw [m_isBoard hR hw h1 h2]
  by_cases h : 0 ≤ b ∧ b < rB ρ
  · obtain ⟨h1, h2⟩ := h
    have h5 := lft_b hw hx h1 h2
    obtain ⟨s1, e1, f1, a1⟩ := m_fill ha
    have hR1 := hR.fr f1 rfl rfl
    obtain ⟨r, er, s', es, fs⟩ := m_singeLoop hR1 hw (f1.ar ha rfl) hx h1 h2 (lft ρ x b).toNat s1 x 1 fr.refl a1 hx (by omega) (by omega) (by omega)
    refine ⟨s', ?_, (f1.mono rfl rfl).trans fs⟩
    simp only [if_pos (And.intro h1 h2), iI_lit, iI_add, iI_sub, iI_mul, iI_neg, Option.bind_some, if_true, if_false, Int.reduceEq, Int.reduceLE, Int.reduceLT, Int.reduceAdd, Int.reduceSub, Int.reduceMul, Int.reduceNeg, Nat.reduceEqDiff, show ¬ iI 1 = iI 0 by decide, e1]
    rw [er]
    simp only [Option.bind_some]
    rw [← es]
    cases r <;> rfl
  · refine ⟨s, ?_, fr.refl⟩
    simp only [if_neg h, iI_lit, iI_add, iI_sub, iI_mul, iI_neg, Option.bind_some, if_true, if_false, Int.reduceEq, Int.reduceLE, Int.reduceLT, Int.reduceAdd, Int.reduceSub, Int.reduceMul, Int.reduceNeg, Nat.reduceEqDiff]
end M9

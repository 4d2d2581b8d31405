/-! LAYER 3: the model's coolest, straight, singe -/
set_option maxRecDepth 100000
theorem sc_mono {ρ : Rv} {x : Int → Int} {b v n : Int} (h1 : 0 ≤ b) (h2 : b < 4) (k : Nat) : x (12 + b) ≤ (rowR ρ x b v n k).2 (12 + b) := by
  induction k with
  | zero => exact Int.le_refl _
  | succ k ih =>
    simp only [rowR]
    split
    · exact ih
    · simp only
      rw [str_sc h1 h2]
      repeat' split
      all_goals omega
theorem bestN_ok {c : Int → Int} (hc : ∀ k : Nat, c k < 1000000) (n : Nat) : ((bestN c n).2 = -1 ∧ (bestN c n).1 = 1000000) ∨ (0 ≤ (bestN c n).2 ∧ (bestN c n).2 < n ∧ (bestN c n).1 = c (bestN c n).2 ∧ 0 ≤ (bestN c n).1 ∧ (bestN c n).1 < 1000000) := by
  induction n with
  | zero => exact Or.inl ⟨rfl, rfl⟩
  | succ n ih =>
    simp only [bestN]
    split
    · rename_i h
      exact Or.inr ⟨by simp only; omega, by simp only; omega, rfl, h.1, hc n⟩
    · rcases ih with h | ⟨a, b, d⟩
      · exact Or.inl h
      · exact Or.inr ⟨a, by omega, d⟩
section M8
variable {ρ : Rv} {s : mS} {x : Int → Int}
theorem coolC_b (hw : wfR ρ) (hx : wfS ρ x) {b : Int} (h1 : 0 ≤ b) (h2 : b < rB ρ) (v : Int) : -1 ≤ coolC ρ x b v ∧ coolC ρ x b v < 1000000 ∧ ((rowE ρ x b v).1 = 0 → coolC ρ x b v = -1) ∧ ((rowE ρ x b v).1 = 1 → 0 ≤ coolC ρ x b v ∧ coolC ρ x b v = 100 * ((rowE ρ x b v).2 (12 + b) - x (12 + b)) + (rowE ρ x b v).2 (8 + b)) := by
  have hb := hw.2.2.1
  have hE := rowE_wf (v := v) hw hx h1 h2
  have hs := hE.1.1 b h1 h2
  have hx1 := hx.1 b h1 h2
  have hm := sc_mono (ρ := ρ) (x := x) (v := v) (n := lft ρ x b) h1 (show b < 4 by omega) (lft ρ x b).toNat
  rw [show rowR ρ x b v (lft ρ x b) (lft ρ x b).toNat = rowE ρ x b v from rfl] at hm
  unfold coolC
  rcases hE.2 with h0 | h0
  · rw [if_pos h0]; omega
  · rw [if_neg (by omega)]; omega
theorem turnN_b (v n : Int) (k : Nat) : 0 ≤ turnN v n k ∧ turnN v n k ≤ k := by
  induction k with
  | zero => exact ⟨Int.le_refl _, Int.le_refl _⟩
  | succ k ih =>
    simp only [turnN]
    split <;> omega
theorem m_putSteers (hR : okR ρ s) (hw : wfR ρ) (ha : ar s 22 28 x) (hx : wfS ρ x) {b : Int} (h1 : 0 ≤ b) (h2 : b < rB ρ) {f : Int → Int} (h25 : ar s 25 (lft ρ x b) f) : ∃ s', fm_putSteers s (iI b) = some s' ∧ fr [61] [26] s s' ∧ s'.1 61 = iI (lft ρ x b) ∧ ar s' 26 (lft ρ x b) f := by
  have h3 := lft_b hw hx h1 h2
  have hb := hw.2.2.1
  have e1 : fm_leftOf s (iI b) = some (iI (lft ρ x b)) := m_leftOf hR ha h1 (by omega)
  generalize lft ρ x b = n at *
  have : ∃ r, lp fm_putSteers_b11 (0, mSi s 61 (iI n)) = some r ∧ (fr [61] [26] s r ∧ r.1 61 = iI n ∧ ar r 26 n f) := by
    refine lp_inv (fun i q => q.1 = iI i ∧ fr [61] [26] s q.2 ∧ q.2.1 61 = iI n ∧ ar q.2 26 i f) n.toNat ?_ ?_ ⟨rfl, fr.refl.si rfl, rfl, fun z z1 z2 => by omega⟩
    · rintro i ⟨k, u⟩ hi ⟨g1, g2, g3, g4⟩
      simp only at g1 g2 g3 g4
      subst g1
      have d25 : u.2.2.1 25 (i : Int).toNat = iI (f i) := by rw [g2.a 25 rfl]; exact h25 i (by omega) (by omega)
      left
      refine ⟨(iI ((i : Int) + 1), mSa u 26 (upd (u.2.2.1 26) (i : Int).toNat (iI (f i)))), ?_, rfl, g2.sa rfl, g3, fun z z1 z2 => ?_⟩
      · simp (disch := omega) only [fm_putSteers_b11, iI_lit, iI_add, iI_sub, iI_mul, iI_neg, Option.bind_some, if_true, if_false, Int.reduceEq, Int.reduceLE, Int.reduceLT, Int.reduceAdd, Int.reduceSub, Int.reduceMul, Int.reduceNeg, Nat.reduceEqDiff, iI_le, iI_lt, iI_eq, ld_i, sto_i, g3, d25]
        rw [if_neg (by omega)]
      · simp only [sa_get, if_true]
        rw [upd_i (by omega) z1]
        split
        · rename_i e; rw [e]
        · exact g4 z z1 (by omega)
    · rintro ⟨k, u⟩ ⟨g1, g2, g3, g4⟩
      simp only at g1 g2 g3 g4
      subst g1
      refine ⟨u, ?_, g2, g3, fun z z1 z2 => g4 z z1 (by omega)⟩
      simp (disch := omega) only [fm_putSteers_b11, iI_lit, iI_add, iI_sub, iI_mul, iI_neg, Option.bind_some, if_true, if_false, Int.reduceEq, Int.reduceLE, Int.reduceLT, Int.reduceAdd, Int.reduceSub, Int.reduceMul, Int.reduceNeg, Nat.reduceEqDiff, iI_le, iI_lt, iI_eq, g3]
      rw [if_pos (by omega)]
  obtain ⟨r, e, g⟩ := this
  refine ⟨r, ?_, g⟩
  unfold fm_putSteers
  rw [e1]
  simp only [Option.bind_some, pI]
  rw [e]
  rfl
/-- what coolest and straight lay: the best row's steers -/
def laidOk (n best : Int) (s : mS) : Prop := (best = -1 ∧ s.1 61 = iI 0) ∨ (0 ≤ best ∧ s.1 61 = iI n ∧ ar s 26 n (dig best n))
theorem laidOk.fr {n best : Int} {s s1 : mS} (h : laidOk n best s) (f : fr [] [8, 9, 23, 25] s s1) : laidOk n best s1 := by
  rcases h with ⟨a, b⟩ | ⟨a, b, c⟩
  · exact Or.inl ⟨a, by rw [f.s 61 rfl]; exact b⟩
  · exact Or.inr ⟨a, by rw [f.s 61 rfl]; exact b, f.ar c rfl⟩
def coolV (ρ : Rv) (x : Int → Int) (b what : Int) : Int :=
  let p := bestN (coolC ρ x b) (p3 (lft ρ x b)).toNat
  if p.2 < 0 then -1 else if what = 0 then p.1 / 100 else if what = 1 then p.1 % 100 else (rowE ρ x b p.2).2 b
theorem m_coolest (hR : okR ρ s) (hw : wfR ρ) (ha : ar s 22 28 x) (hx : wfS ρ x) {b what : Int} (h1 : -2147483648 ≤ b) (h2 : b < 2147483648) (h3 : -2147483648 ≤ what) (h4 : what < 2147483648) : ∃ s', fm_coolest s (iI b) (iI what) = some (iI (if (0 ≤ b ∧ b < rB ρ) ∧ 0 ≤ what ∧ what ≤ 2 then coolV ρ x b what else -1), s') ∧ fr [61] [8, 9, 23, 25, 26] s s' ∧ (if (0 ≤ b ∧ b < rB ρ) ∧ 0 ≤ what ∧ what ≤ 2 then laidOk (lft ρ x b) (bestN (coolC ρ x b) (p3 (lft ρ x b)).toNat).2 s' else s'.1 61 = iI 0) := by
  have f0 : fr [61] [8, 9, 23, 25, 26] s (mSi s 61 (iI 0)) := fr.refl.si rfl
  have hR0 := hR.fr f0 rfl rfl
  have ha0 := f0.ar ha rfl
  unfold fm_coolest
  simp only [pI, iI_lit, iI_add, iI_sub, iI_mul, iI_neg, Option.bind_some, if_true, if_false, Int.reduceEq, Int.reduceLE, Int.reduceLT, Int.reduceAdd, Int.reduceSub, Int.reduceMul, Int.reduceNeg, Nat.reduceEqDiff]
  rw [m_isBoard hR0 hw h1 h2]
  by_cases h : 0 ≤ b ∧ b < rB ρ
  · obtain ⟨h1, h2⟩ := h
    simp only [if_pos (And.intro h1 h2), iI_lit, iI_add, iI_sub, iI_mul, iI_neg, Option.bind_some, if_true, if_false, Int.reduceEq, Int.reduceLE, Int.reduceLT, Int.reduceAdd, Int.reduceSub, Int.reduceMul, Int.reduceNeg, Nat.reduceEqDiff, show ¬ iI 1 = iI 0 by decide, and_self, true_and]
    rw [m_isIn h3 h4 (by omega) (by omega) (by omega) (by omega)]
    by_cases hq : 0 ≤ what ∧ what ≤ 2
    · have h5 := lft_b hw hx h1 h2
      have hp := p3_le h5.2
      have hp0 := p3_pos (lft ρ x b)
      have hb := hw.2.2.1
      have hC := hw.1
      have hcb := coolC_b hw hx h1 h2
      have : ∃ r, lp (fm_coolest_b34 (iI b) (iI what)) (iI 1000000, iI (-1), iI 0, mSi s 61 (iI 0)) = some r ∧ (r.1 = iI (bestN (coolC ρ x b) (p3 (lft ρ x b)).toNat).1 ∧ r.2.1 = iI (if (bestN (coolC ρ x b) (p3 (lft ρ x b)).toNat).2 < 0 then -1 else (rowE ρ x b (bestN (coolC ρ x b) (p3 (lft ρ x b)).toNat).2).2 b) ∧ fr [61] [8, 9, 23, 25, 26] s r.2.2 ∧ laidOk (lft ρ x b) (bestN (coolC ρ x b) (p3 (lft ρ x b)).toNat).2 r.2.2) := by
        refine lp_inv (fun i q => q.1 = iI (bestN (coolC ρ x b) i).1 ∧ q.2.1 = iI (if (bestN (coolC ρ x b) i).2 < 0 then -1 else (rowE ρ x b (bestN (coolC ρ x b) i).2).2 b) ∧ q.2.2.1 = iI i ∧ fr [61] [8, 9, 23, 25, 26] s q.2.2.2 ∧ laidOk (lft ρ x b) (bestN (coolC ρ x b) i).2 q.2.2.2) (p3 (lft ρ x b)).toNat ?_ ?_ ⟨rfl, rfl, rfl, f0, Or.inl ⟨rfl, rfl⟩⟩
        · rintro i ⟨a, c, d, u⟩ hi ⟨g1, g2, g3, g4, g5⟩
          simp only at g1 g2 g3 g4 g5
          subst g1 g2 g3
          have hRu := hR.fr g4 rfl rfl
          have hau := g4.ar ha rfl
          obtain ⟨u2, e1, f1, a1, d1⟩ := m_goRowE hRu hw hau hx (b := b) (v := i) h1 h2 (by omega) (by omega)
          have hR2 := hRu.fr f1 rfl rfl
          have ha2 := f1.ar hau rfl
          have hE := rowE_wf (v := i) hw hx h1 h2
          have hEb := hE.1.1 b h1 h2
          have hxb := hx.1 b h1 h2
          obtain ⟨c1, c2, c3, c4⟩ := hcb i
          have hbk := bestN_ok (fun k : Nat => (hcb k).2.1) i
          have q12 := a1 (12 + b) (by omega) (by omega)
          have q8 := a1 (8 + b) (by omega) (by omega)
          have q0 := a1 b (by omega) (by omega)
          have n12 := ha2 (12 + b) (by omega) (by omega)
          left
          unfold fm_coolest_b34
          rw [m_codes hRu hw hau hx h1 h2]
          rcases hE.2 with h0 | h0
          · have hb1 : bestN (coolC ρ x b) (i + 1) = bestN (coolC ρ x b) i := by
              simp only [bestN]
              rw [if_neg (by have := c3 h0; omega)]
            rw [hb1]
            refine ⟨(iI (bestN (coolC ρ x b) i).1, iI (if (bestN (coolC ρ x b) i).2 < 0 then -1 else (rowE ρ x b (bestN (coolC ρ x b) i).2).2 b), iI ((i : Int) + 1), u2), ?_, rfl, rfl, rfl, g4.trans (f1.mono rfl rfl), g5.fr f1⟩
            simp (disch := omega) only [iI_lit, iI_add, iI_sub, iI_mul, iI_neg, Option.bind_some, if_true, if_false, Int.reduceEq, Int.reduceLE, Int.reduceLT, Int.reduceAdd, Int.reduceSub, Int.reduceMul, Int.reduceNeg, Nat.reduceEqDiff, iI_le, iI_lt, iI_eq, e1, h0]
            rw [if_neg (by omega)]
          · obtain ⟨c5, c6⟩ := c4 h0
            by_cases hlt : coolC ρ x b i < (bestN (coolC ρ x b) i).1
            · have hb1 : bestN (coolC ρ x b) (i + 1) = (coolC ρ x b i, (i : Int)) := by
                simp only [bestN]
                rw [if_pos ⟨c5, hlt⟩]
              rw [hb1]
              obtain ⟨u3, e3, f3, l1, l2⟩ := m_putSteers hR2 hw ha2 hx h1 h2 d1
              refine ⟨(iI (coolC ρ x b i), iI ((rowE ρ x b i).2 b), iI ((i : Int) + 1), u3), ?_, rfl, ?_, rfl, (g4.trans (f1.mono rfl rfl)).trans (f3.mono rfl rfl), Or.inr ⟨by simp only; omega, l1, l2⟩⟩
              · simp (disch := omega) only [iI_lit, iI_add, iI_sub, iI_mul, iI_neg, Option.bind_some, if_true, if_false, Int.reduceEq, Int.reduceLE, Int.reduceLT, Int.reduceAdd, Int.reduceSub, Int.reduceMul, Int.reduceNeg, Nat.reduceEqDiff, iI_le, iI_lt, iI_eq, ld_i, sto_i, e1, h0, q12, q8, q0, n12, e3, ← c6]
                rw [if_neg (by omega), if_pos hlt]
              · simp only
                rw [if_neg (by omega)]
            · have hb1 : bestN (coolC ρ x b) (i + 1) = bestN (coolC ρ x b) i := by
                simp only [bestN]
                rw [if_neg (by omega)]
              rw [hb1]
              refine ⟨(iI (bestN (coolC ρ x b) i).1, iI (if (bestN (coolC ρ x b) i).2 < 0 then -1 else (rowE ρ x b (bestN (coolC ρ x b) i).2).2 b), iI ((i : Int) + 1), u2), ?_, rfl, rfl, rfl, g4.trans (f1.mono rfl rfl), g5.fr f1⟩
              simp (disch := omega) only [iI_lit, iI_add, iI_sub, iI_mul, iI_neg, Option.bind_some, if_true, if_false, Int.reduceEq, Int.reduceLE, Int.reduceLT, Int.reduceAdd, Int.reduceSub, Int.reduceMul, Int.reduceNeg, Nat.reduceEqDiff, iI_le, iI_lt, iI_eq, ld_i, sto_i, e1, h0, q12, q8, q0, n12, ← c6]
              rw [if_neg (by omega), if_neg hlt]
        · rintro ⟨a, c, d, u⟩ ⟨g1, g2, g3, g4, g5⟩
          simp only at g1 g2 g3 g4 g5
          subst g1 g2 g3
          have hRu := hR.fr g4 rfl rfl
          have hau := g4.ar ha rfl
          refine ⟨(iI (bestN (coolC ρ x b) (p3 (lft ρ x b)).toNat).1, iI (if (bestN (coolC ρ x b) (p3 (lft ρ x b)).toNat).2 < 0 then -1 else (rowE ρ x b (bestN (coolC ρ x b) (p3 (lft ρ x b)).toNat).2).2 b), u), ?_, rfl, rfl, g4, g5⟩
          unfold fm_coolest_b34
          rw [m_codes hRu hw hau hx h1 h2]
          simp (disch := omega) only [iI_lit, iI_add, iI_sub, iI_mul, iI_neg, Option.bind_some, if_true, if_false, Int.reduceEq, Int.reduceLE, Int.reduceLT, Int.reduceAdd, Int.reduceSub, Int.reduceMul, Int.reduceNeg, Nat.reduceEqDiff, iI_le, iI_lt, iI_eq]
          rw [if_pos (by omega)]
      obtain ⟨⟨r1, r2, r3⟩, e, g1, g2, g3, g4⟩ := this
      simp only at g1 g2 g3 g4
      subst g1 g2
      have hbk := bestN_ok (fun k : Nat => (hcb k).2.1) (p3 (lft ρ x b)).toNat
      have hall : (0 ≤ b ∧ b < rB ρ) ∧ 0 ≤ what ∧ what ≤ 2 := ⟨⟨h1, h2⟩, hq⟩
      refine ⟨r3, ?_, g3, by rw [if_pos hall]; exact g4⟩
      simp only [if_pos hq, if_pos hall, iI_lit, iI_add, iI_sub, iI_mul, iI_neg, Option.bind_some, if_true, if_false, Int.reduceEq, Int.reduceLE, Int.reduceLT, Int.reduceAdd, Int.reduceSub, Int.reduceMul, Int.reduceNeg, Nat.reduceEqDiff, show ¬ iI 1 = iI 0 by decide]
      rw [e]
      unfold coolV
      simp only [Option.bind_some]
      rcases hbk with ⟨k1, k2⟩ | ⟨k1, k2, k3, k4, k5⟩
      · rw [k1]
        simp only [iI_lit, iI_add, iI_sub, iI_mul, iI_neg, Option.bind_some, if_true, if_false, Int.reduceEq, Int.reduceLE, Int.reduceLT, Int.reduceAdd, Int.reduceSub, Int.reduceMul, Int.reduceNeg, Nat.reduceEqDiff, show ¬ iI 0 ≤ iI (-1) by decide, show (-1 : Int) < 0 by omega]
      · have hEb := (rowE_wf (v := (bestN (coolC ρ x b) (p3 (lft ρ x b)).toNat).2) hw hx h1 h2).1.1 b h1 h2
        have hne : ¬ (bestN (coolC ρ x b) (p3 (lft ρ x b)).toNat).2 < 0 := by omega
        have hc0 : 0 ≤ (rowE ρ x b (bestN (coolC ρ x b) (p3 (lft ρ x b)).toNat).2).2 b := hEb.1.1
        simp (disch := omega) only [iI_lit, iI_add, iI_sub, iI_mul, iI_neg, Option.bind_some, if_true, if_false, Int.reduceEq, Int.reduceLE, Int.reduceLT, Int.reduceAdd, Int.reduceSub, Int.reduceMul, Int.reduceNeg, Nat.reduceEqDiff, iI_le, iI_lt, iI_eq, if_neg hne, dv_i, rm_i, if_pos hc0]
        by_cases w0 : what = 0
        · simp only [if_pos w0]
        · by_cases w1 : what = 1
          · simp only [if_neg w0, if_pos w1]
          · simp only [if_neg w0, if_neg w1]
    · refine ⟨mSi s 61 (iI 0), ?_, f0, by rw [if_neg (by omega)]; rfl⟩
      rw [if_neg (show ¬ ((0 ≤ b ∧ b < rB ρ) ∧ 0 ≤ what ∧ what ≤ 2) by omega)]
      simp only [if_neg hq, iI_lit, iI_add, iI_sub, iI_mul, iI_neg, Option.bind_some, if_true, if_false, Int.reduceEq, Int.reduceLE, Int.reduceLT, Int.reduceAdd, Int.reduceSub, Int.reduceMul, Int.reduceNeg, Nat.reduceEqDiff]
  · refine ⟨mSi s 61 (iI 0), ?_, f0, by rw [if_neg (by omega)]; rfl⟩
    rw [if_neg (show ¬ ((0 ≤ b ∧ b < rB ρ) ∧ 0 ≤ what ∧ what ≤ 2) by omega)]
    simp only [if_neg h, iI_lit, iI_add, iI_sub, iI_mul, iI_neg, Option.bind_some, if_true, if_false, Int.reduceEq, Int.reduceLE, Int.reduceLT, Int.reduceAdd, Int.reduceSub, Int.reduceMul, Int.reduceNeg, Nat.reduceEqDiff]
end M8

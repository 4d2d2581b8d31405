/-! LAYER 3: the model's guests, law, and what is told of a board, a load, a spot -/
set_option maxRecDepth 100000
def wor (x : Int → Int) (b own other : Int) : Int := (if own = other then 3 else 9) - absI (own - x b)
/-- nobody would rather be elsewhere, among the first k columns -/
def rstN (x : Int → Int) (a A b B p q : Int) : Nat → Int
  | 0 => 1
  | k + 1 => if rstN x a A b B p q k = 1 ∧ (bit A k = 1 → ¬ wor x a p q < wor x a k q) ∧ (bit B k = 1 → ¬ wor x b q p < wor x b k p) then 1 else 0
/-- pairs at rest: how many, the first; y up to k at this column p -/
def gsY (ρ : Rv) (x : Int → Int) (a A b B p : Int) (n0 : Int × Int × Int) : Nat → Int × Int × Int
  | 0 => n0
  | k + 1 => if bit A p = 1 ∧ bit B k = 1 ∧ rstN x a A b B p k (rC ρ).toNat = 1 then (if (gsY ρ x a A b B p n0 k).1 = 0 then (1, p, k) else ((gsY ρ x a A b B p n0 k).1 + 1, (gsY ρ x a A b B p n0 k).2)) else gsY ρ x a A b B p n0 k
def gsX (ρ : Rv) (x : Int → Int) (a A b B : Int) : Nat → Int × Int × Int
  | 0 => (0, 0, 0)
  | k + 1 => gsY ρ x a A b B k (gsX ρ x a A b B k) (rC ρ).toNat
theorem gsY_b {ρ : Rv} {x : Int → Int} {a A b B p : Int} {n0 : Int × Int × Int} (h : 0 ≤ n0.1) (k : Nat) : 0 ≤ (gsY ρ x a A b B p n0 k).1 ∧ (gsY ρ x a A b B p n0 k).1 ≤ n0.1 + k := by
  induction k with
  | zero => exact ⟨h, by show n0.1 ≤ _; omega⟩
  | succ k ih =>
    simp only [gsY]
    repeat' split
    all_goals first | omega | (simp only; omega)
theorem gsX_b {ρ : Rv} {x : Int → Int} {a A b B : Int} (hw : wfR ρ) (k : Nat) : 0 ≤ (gsX ρ x a A b B k).1 ∧ (gsX ρ x a A b B k).1 ≤ 8 * k := by
  have hC := hw.1
  induction k with
  | zero => exact ⟨Int.le_refl _, Int.le_refl _⟩
  | succ k ih =>
    have := gsY_b (ρ := ρ) (x := x) (a := a) (A := A) (b := b) (B := B) (p := k) (n0 := gsX ρ x a A b B k) ih.1 (rC ρ).toNat
    simp only [gsX]
    omega
section B3
variable {ρ : Rv} {s : mS} {x : Int → Int}
theorem rstN_01 {a A b B p q : Int} (k : Nat) : rstN x a A b B p q k = 0 ∨ rstN x a A b B p q k = 1 := by
  cases k with
  | zero => exact Or.inr rfl
  | succ k =>
    simp only [rstN]
    split
    · exact Or.inr rfl
    · exact Or.inl rfl
theorem m_guestWorth (hw : wfR ρ) (ha : ar s 22 28 x) (hx : wfS ρ x) {b own other : Int} (h1 : 0 ≤ b) (h2 : b < rB ρ) (h3 : 0 ≤ own) (h4 : own < 8) (h5 : 0 ≤ other) (h6 : other < 8) : fm_guestWorth s (iI b) (iI own) (iI other) = some (iI (wor x b own other)) := by
  have hb := hw.2.2.1
  have hC := hw.1
  have h7 := ha b (by omega) (by omega)
  have h8 := hx.1 b h1 h2
  simp (disch := omega) only [fm_guestWorth, fm_guestWorth_j11, iI_lit, iI_add, iI_sub, iI_mul, iI_neg, Option.bind_some, if_true, if_false, Int.reduceEq, Int.reduceLE, Int.reduceLT, Int.reduceAdd, Int.reduceSub, Int.reduceMul, Int.reduceNeg, Nat.reduceEqDiff, iI_le, iI_lt, iI_eq, ld_i, sto_i, h7, m_plain, wor]
  split <;> rfl
theorem wor_b (hw : wfR ρ) (hx : wfS ρ x) {b own other : Int} (h1 : 0 ≤ b) (h2 : b < rB ρ) (h3 : 0 ≤ own) (h4 : own < 8) : -10 ≤ wor x b own other ∧ wor x b own other ≤ 9 := by
  have hC := hw.1
  have h8 := hx.1 b h1 h2
  unfold wor absI
  repeat' split
  all_goals omega
theorem m_isRest (hR : okR ρ s) (hw : wfR ρ) (ha : ar s 22 28 x) (hx : wfS ρ x) {a A b B p q : Int} (h1 : 0 ≤ a) (h2 : a < rB ρ) (h3 : 0 ≤ b) (h4 : b < rB ρ) (h5 : 0 ≤ A) (h6 : A < 256) (h7 : 0 ≤ B) (h8 : B < 256) (h9 : 0 ≤ p) (h10 : p < 8) (h11 : 0 ≤ q) (h12 : q < 8) : fm_isRest s (iI a) (iI A) (iI b) (iI B) (iI p) (iI q) = some (iI (rstN x a A b B p q (rC ρ).toNat)) := by
  have hC := hw.1
  have : lp (fm_isRest_b6 s (iI a) (iI A) (iI b) (iI B) (iI p) (iI q)) (1, 0) = some (iI (rstN x a A b B p q (rC ρ).toNat)) := by
    refine lp_seq (fun i => (iI (rstN x a A b B p q i), iI i)) (rC ρ).toNat (fun i hi => ?_) ?_
    · have w1 := m_guestWorth hw ha hx (b := a) (own := i) (other := q) h1 h2 (by omega) (by omega) h11 h12
      have w2 := m_guestWorth hw ha hx (b := a) (own := p) (other := q) h1 h2 h9 h10 h11 h12
      have w3 := m_guestWorth hw ha hx (b := b) (own := i) (other := p) h3 h4 (by omega) (by omega) h9 h10
      have w4 := m_guestWorth hw ha hx (b := b) (own := q) (other := p) h3 h4 h11 h12 h9 h10
      have v1 := wor_b (other := q) hw hx h1 h2 (own := i) (by omega) (by omega)
      have v2 := wor_b (other := q) hw hx h1 h2 (own := p) h9 h10
      have v3 := wor_b (other := p) hw hx h3 h4 (own := i) (by omega) (by omega)
      have v4 := wor_b (other := p) hw hx h3 h4 (own := q) h11 h12
      have t1 := bit_01 A i
      have t2 := bit_01 B i
      have hr := rstN_01 (x := x) (a := a) (A := A) (b := b) (B := B) (p := p) (q := q) i
      simp (disch := omega) only [fm_isRest_b6, fm_isRest_j55, fm_isRest_j56, fm_isRest_j58, hR.1, iI_lit, iI_add, iI_sub, iI_mul, iI_neg, Option.bind_some, if_true, if_false, Int.reduceEq, Int.reduceLE, Int.reduceLT, Int.reduceAdd, Int.reduceSub, Int.reduceMul, Int.reduceNeg, Nat.reduceEqDiff, iI_le, iI_lt, iI_eq, bit_i, w1, w2, w3, w4, rstN]
      rw [if_neg (by omega)]
      by_cases c1 : bit A i = 1 <;> by_cases c2 : bit B i = 1 <;> rcases hr with c3 | c3 <;> by_cases c4 : wor x a p q < wor x a i q <;> by_cases c5 : wor x b q p < wor x b i p <;> simp only [c1, c2, c3, c4, c5, if_true, if_false, iI_lit, iI_add, iI_sub, iI_mul, iI_neg, Option.bind_some, if_true, if_false, Int.reduceEq, Int.reduceLE, Int.reduceLT, Int.reduceAdd, Int.reduceSub, Int.reduceMul, Int.reduceNeg, Nat.reduceEqDiff, true_and, false_and, and_true, and_false, forall_const, true_implies, false_implies, implies_true, not_true_eq_false, not_false_eq_true, and_self] <;> rfl
    · simp (disch := omega) only [fm_isRest_b6, hR.1, iI_lit, iI_add, iI_sub, iI_mul, iI_neg, Option.bind_some, if_true, if_false, Int.reduceEq, Int.reduceLE, Int.reduceLT, Int.reduceAdd, Int.reduceSub, Int.reduceMul, Int.reduceNeg, Nat.reduceEqDiff, iI_le, iI_lt, iI_eq]
      rw [if_pos (by omega)]
  unfold fm_isRest
  rw [this]
  simp only [Option.bind_some]
  rcases rstN_01 (x := x) (a := a) (A := A) (b := b) (B := B) (p := p) (q := q) (rC ρ).toNat with h | h
  · rw [h]; exact if_pos (Or.inl rfl)
  · rw [h]; exact if_pos (Or.inr rfl)
theorem m_guests (hR : okR ρ s) (hw : wfR ρ) (ha : ar s 22 28 x) (hx : wfS ρ x) {b c : Int} (h1 : -2147483648 ≤ b) (h2 : b < 2147483648) (h3 : -2147483648 ≤ c) (h4 : c < 2147483648) : ∃ s', fm_guests s (iI b) (iI c) = some (iI (if (0 ≤ b ∧ b < rB ρ) ∧ (0 ≤ c ∧ c < rB ρ) ∧ ¬ b = c ∧ ¬ landS ρ x b = 0 ∧ ¬ landS ρ x c = 0 then (gsX ρ x b (landS ρ x b) c (landS ρ x c) (rC ρ).toNat).1 else -1), s') ∧ fr [61] [8, 9, 23, 25, 26] s s' ∧ (if ((0 ≤ b ∧ b < rB ρ) ∧ (0 ≤ c ∧ c < rB ρ) ∧ ¬ b = c ∧ ¬ landS ρ x b = 0 ∧ ¬ landS ρ x c = 0) ∧ ¬ (gsX ρ x b (landS ρ x b) c (landS ρ x c) (rC ρ).toNat).1 = 0 then s'.1 61 = iI 2 ∧ s'.2.2.1 26 0 = iI (gsX ρ x b (landS ρ x b) c (landS ρ x c) (rC ρ).toNat).2.1 ∧ s'.2.2.1 26 1 = iI (gsX ρ x b (landS ρ x b) c (landS ρ x c) (rC ρ).toNat).2.2 else s'.1 61 = iI 0) := by
  have f0 : fr [61] [8, 9, 23, 25, 26] s (mSi s 61 (iI 0)) := fr.refl.si rfl
  have hR0 := hR.fr f0 rfl rfl
  have ha0 := f0.ar ha rfl (j := 22)
  have hC := hw.1
  unfold fm_guests
  simp only [pI, iI_lit, iI_add, iI_sub, iI_mul, iI_neg, Option.bind_some, if_true, if_false, Int.reduceEq, Int.reduceLE, Int.reduceLT, Int.reduceAdd, Int.reduceSub, Int.reduceMul, Int.reduceNeg, Nat.reduceEqDiff]
  rw [m_isBoard hR0 hw h1 h2]
  by_cases hA : 0 ≤ b ∧ b < rB ρ
  · simp only [if_pos hA, iI_lit, iI_add, iI_sub, iI_mul, iI_neg, Option.bind_some, if_true, if_false, Int.reduceEq, Int.reduceLE, Int.reduceLT, Int.reduceAdd, Int.reduceSub, Int.reduceMul, Int.reduceNeg, Nat.reduceEqDiff, show ¬ iI 1 = iI 0 by decide]
    rw [m_isBoard hR0 hw h3 h4]
    by_cases hB : 0 ≤ c ∧ c < rB ρ
    · have hb := hw.2.2.1
      simp (disch := omega) only [if_pos hB, iI_lit, iI_add, iI_sub, iI_mul, iI_neg, Option.bind_some, if_true, if_false, Int.reduceEq, Int.reduceLE, Int.reduceLT, Int.reduceAdd, Int.reduceSub, Int.reduceMul, Int.reduceNeg, Nat.reduceEqDiff, iI_le, iI_lt, iI_eq, show ¬ iI 1 = iI 0 by decide]
      by_cases q1 : b = c
      · refine ⟨mSi s 61 (iI 0), ?_, f0, ?_⟩
        · rw [if_pos q1, if_neg (fun z => z.2.2.1 q1)]
        · rw [if_neg (fun z => z.1.2.2.1 q1)]; rfl
      · rw [if_neg q1]
        obtain ⟨s1, e1, f1⟩ := m_landingsOf hR0 hw ha0 hx hA.1 hA.2
        have hR1 := hR0.fr f1 rfl rfl
        have ha1 := f1.ar ha0 rfl (j := 22)
        obtain ⟨s2, e2, f2⟩ := m_landingsOf hR1 hw ha1 hx hB.1 hB.2
        have hR2 := hR1.fr f2 rfl rfl
        have ha2 := f2.ar ha1 rfl (j := 22)
        have b1 : 0 ≤ landS ρ x b ∧ landS ρ x b < 256 := landN_b hw hx hA.1 hA.2 _
        have b2 : 0 ≤ landS ρ x c ∧ landS ρ x c < 256 := landN_b hw hx hB.1 hB.2 _
        have f2' : fr [61] [8, 9, 23, 25, 26] s s2 := (f0.trans (f1.mono rfl rfl)).trans (f2.mono rfl rfl)
        have z61 : s2.1 61 = iI 0 := by rw [f2.s 61 rfl, f1.s 61 rfl]; rfl
        simp (disch := omega) only [e1, e2, iI_lit, iI_add, iI_sub, iI_mul, iI_neg, Option.bind_some, if_true, if_false, Int.reduceEq, Int.reduceLE, Int.reduceLT, Int.reduceAdd, Int.reduceSub, Int.reduceMul, Int.reduceNeg, Nat.reduceEqDiff, iI_le, iI_lt, iI_eq]
        by_cases q2 : landS ρ x b = 0
        · refine ⟨s2, ?_, f2', ?_⟩
          · rw [if_pos q2, if_neg (fun z => z.2.2.2.1 q2)]
          · rw [if_neg (fun z => z.1.2.2.2.1 q2)]; exact z61
        · rw [if_neg q2]
          by_cases q3 : landS ρ x c = 0
          · refine ⟨s2, ?_, f2', ?_⟩
            · rw [if_pos q3, if_neg (fun z => z.2.2.2.2 q3)]
            · rw [if_neg (fun z => z.1.2.2.2.2 q3)]; exact z61
          · rw [if_neg q3]
            have hall : (0 ≤ b ∧ b < rB ρ) ∧ (0 ≤ c ∧ c < rB ρ) ∧ ¬ b = c ∧ ¬ landS ρ x b = 0 ∧ ¬ landS ρ x c = 0 := ⟨hA, hB, q1, q2, q3⟩
            simp only [if_pos hall, hall, true_and, not_false_eq_true, and_self]
            generalize landS ρ x b = A at *
            generalize landS ρ x c = B at *
            -- what is laid
            let laid : Int × Int × Int → mS → Prop := fun g u => if ¬ g.1 = 0 then u.1 61 = iI 2 ∧ u.2.2.1 26 0 = iI g.2.1 ∧ u.2.2.1 26 1 = iI g.2.2 else u.1 61 = iI 0
            have inner : ∀ (p : Nat) (g : Int × Int × Int) (u : mS), (p : Int) < rC ρ → 0 ≤ g.1 → g.1 ≤ 64 → fr [61] [26] s2 u → laid g u → ∃ q, lp (fm_guests_b70 (iI b) (iI c) (iI A) (iI B) (iI p)) (iI g.1, iI 0, u) = some q ∧ (q.1 = iI (gsY ρ x b A c B p g (rC ρ).toNat).1 ∧ fr [61] [26] s2 q.2 ∧ laid (gsY ρ x b A c B p g (rC ρ).toNat) q.2) := by
              intro p g u hp hg1 hg2 hfu hlu
              refine lp_inv (fun i q => q.1 = iI (gsY ρ x b A c B p g i).1 ∧ q.2.1 = iI i ∧ fr [61] [26] s2 q.2.2 ∧ laid (gsY ρ x b A c B p g i) q.2.2) (rC ρ).toNat ?_ ?_ ⟨rfl, rfl, hfu, show laid (gsY ρ x b A c B p g 0) u from hlu⟩
              · rintro i ⟨n, j, w⟩ hi ⟨g1, g2, g3, g4⟩
                simp only at g1 g2 g3 g4
                subst g1 g2
                have hRw := hR2.fr g3 rfl rfl
                have haw := g3.ar ha2 rfl (j := 22)
                have hgb := gsY_b (ρ := ρ) (x := x) (a := b) (A := A) (b := c) (B := B) (p := p) (n0 := g) hg1 i
                have er := m_isRest hRw hw haw hx (a := b) (A := A) (b := c) (B := B) (p := p) (q := i) hA.1 hA.2 hB.1 hB.2 b1.1 b1.2 b2.1 b2.2 (by omega) (by omega) (by omega) (by omega)
                have t1 := bit_01 A p
                have t2 := bit_01 B i
                have t3 := rstN_01 (x := x) (a := b) (A := A) (b := c) (B := B) (p := p) (q := i) (rC ρ).toNat
                left
                have no : ¬ (bit A p = 1 ∧ bit B i = 1 ∧ rstN x b A c B p i (rC ρ).toNat = 1) → fm_guests_b70 (iI b) (iI c) (iI A) (iI B) (iI p) (iI (gsY ρ x b A c B p g i).1, iI i, w) = some (.inl (iI (gsY ρ x b A c B p g i).1, iI ((i : Int) + 1), w)) := by
                  intro hno
                  simp (disch := omega) only [fm_guests_b70, hRw.1, iI_lit, iI_add, iI_sub, iI_mul, iI_neg, Option.bind_some, if_true, if_false, Int.reduceEq, Int.reduceLE, Int.reduceLT, Int.reduceAdd, Int.reduceSub, Int.reduceMul, Int.reduceNeg, Nat.reduceEqDiff, iI_le, iI_lt, iI_eq, bit_i, er]
                  rw [if_neg (by omega)]
                  by_cases k1 : bit A p = 0
                  · rw [if_pos k1]
                  · rw [if_neg k1]
                    by_cases k2 : bit B i = 0
                    · rw [if_pos k2]
                    · rw [if_neg k2, if_pos (by rcases t3 with t3 | t3; exact t3; exact absurd ⟨by omega, by omega, t3⟩ hno)]
                by_cases hy : bit A p = 1 ∧ bit B i = 1 ∧ rstN x b A c B p i (rC ρ).toNat = 1
                · by_cases hz : (gsY ρ x b A c B p g i).1 = 0
                  · have hst : gsY ρ x b A c B p g (i + 1) = (1, (p : Int), (i : Int)) := by
                      simp only [gsY]
                      rw [if_pos hy, if_pos hz]
                    rw [hst]
                    refine ⟨(iI 1, iI ((i : Int) + 1), mSi (aw (aw w 26 0 (iI p)) 26 1 (iI i)) 61 (iI 2)), ?_, rfl, rfl, ((g3.aw rfl).aw rfl).si rfl, ?_⟩
                    · simp (disch := omega) only [fm_guests_b70, hRw.1, iI_lit, iI_add, iI_sub, iI_mul, iI_neg, Option.bind_some, if_true, if_false, Int.reduceEq, Int.reduceLE, Int.reduceLT, Int.reduceAdd, Int.reduceSub, Int.reduceMul, Int.reduceNeg, Nat.reduceEqDiff, iI_le, iI_lt, iI_eq, ld_i, sto_w, aw_get, aw_1, Nat.reduceEqDiff, false_and, true_and, and_true, Int.reduceToNat, bit_i, er, hy.1, hy.2.1, hy.2.2, hz, pI]
                      rw [if_neg (by omega)]
                    · show if ¬ (1 : Int) = 0 then _ else _
                      rw [if_pos (by omega)]
                      exact ⟨rfl, rfl, rfl⟩
                  · have hst : gsY ρ x b A c B p g (i + 1) = ((gsY ρ x b A c B p g i).1 + 1, (gsY ρ x b A c B p g i).2) := by
                      simp only [gsY]
                      rw [if_pos hy, if_neg hz]
                    rw [hst]
                    refine ⟨(iI ((gsY ρ x b A c B p g i).1 + 1), iI ((i : Int) + 1), w), ?_, rfl, rfl, g3, ?_⟩
                    · simp (disch := omega) only [fm_guests_b70, hRw.1, iI_lit, iI_add, iI_sub, iI_mul, iI_neg, Option.bind_some, if_true, if_false, Int.reduceEq, Int.reduceLE, Int.reduceLT, Int.reduceAdd, Int.reduceSub, Int.reduceMul, Int.reduceNeg, Nat.reduceEqDiff, iI_le, iI_lt, iI_eq, bit_i, er, hy.1, hy.2.1, hy.2.2]
                      rw [if_neg (by omega), if_neg hz]
                    · have g4' : if ¬ (gsY ρ x b A c B p g i).1 = 0 then _ else _ := g4
                      rw [if_pos hz] at g4'
                      show if ¬ ((gsY ρ x b A c B p g i).1 + 1) = 0 then _ else _
                      rw [if_pos (by omega)]
                      exact g4'
                · have hst : gsY ρ x b A c B p g (i + 1) = gsY ρ x b A c B p g i := by
                    simp only [gsY]
                    rw [if_neg hy]
                  rw [hst]
                  exact ⟨_, no hy, rfl, rfl, g3, g4⟩
              · rintro ⟨n, j, w⟩ ⟨g1, g2, g3, g4⟩
                simp only at g1 g2 g3 g4
                subst g1 g2
                have hRw := hR2.fr g3 rfl rfl
                refine ⟨(iI (gsY ρ x b A c B p g (rC ρ).toNat).1, w), ?_, rfl, g3, g4⟩
                simp (disch := omega) only [fm_guests_b70, hRw.1, iI_lit, iI_add, iI_sub, iI_mul, iI_neg, Option.bind_some, if_true, if_false, Int.reduceEq, Int.reduceLE, Int.reduceLT, Int.reduceAdd, Int.reduceSub, Int.reduceMul, Int.reduceNeg, Nat.reduceEqDiff, iI_le, iI_lt, iI_eq]
                rw [if_pos (by omega)]
            have outer : ∃ q, lp (fm_guests_b58 (iI b) (iI c) (iI A) (iI B)) (iI 0, iI 0, s2) = some q ∧ (q.1 = iI (gsX ρ x b A c B (rC ρ).toNat).1 ∧ fr [61] [26] s2 q.2 ∧ laid (gsX ρ x b A c B (rC ρ).toNat) q.2) := by
              refine lp_inv (fun i q => q.1 = iI (gsX ρ x b A c B i).1 ∧ q.2.1 = iI i ∧ fr [61] [26] s2 q.2.2 ∧ laid (gsX ρ x b A c B i) q.2.2) (rC ρ).toNat ?_ ?_ ⟨rfl, rfl, fr.refl, by show if ¬ (0 : Int) = 0 then _ else _; rw [if_neg (by omega)]; exact z61⟩
              · rintro i ⟨n, j, w⟩ hi ⟨g1, g2, g3, g4⟩
                simp only at g1 g2 g3 g4
                subst g1 g2
                have hRw := hR2.fr g3 rfl rfl
                have hgb := gsX_b (x := x) (a := b) (A := A) (b := c) (B := B) hw i
                obtain ⟨⟨o, w2⟩, eo, o1, o2, o3⟩ := inner i (gsX ρ x b A c B i) w (by omega) hgb.1 (by omega) g3 g4
                simp only at o1 o2 o3
                subst o1
                left
                refine ⟨(iI (gsX ρ x b A c B (i + 1)).1, iI ((i : Int) + 1), w2), ?_, rfl, rfl, o2, o3⟩
                simp (disch := omega) only [fm_guests_b58, hRw.1, iI_lit, iI_add, iI_sub, iI_mul, iI_neg, Option.bind_some, if_true, if_false, Int.reduceEq, Int.reduceLE, Int.reduceLT, Int.reduceAdd, Int.reduceSub, Int.reduceMul, Int.reduceNeg, Nat.reduceEqDiff, iI_le, iI_lt, iI_eq, eo, gsX]
                rw [if_neg (by omega)]
              · rintro ⟨n, j, w⟩ ⟨g1, g2, g3, g4⟩
                simp only at g1 g2 g3 g4
                subst g1 g2
                have hRw := hR2.fr g3 rfl rfl
                refine ⟨(iI (gsX ρ x b A c B (rC ρ).toNat).1, w), ?_, rfl, g3, g4⟩
                simp (disch := omega) only [fm_guests_b58, hRw.1, iI_lit, iI_add, iI_sub, iI_mul, iI_neg, Option.bind_some, if_true, if_false, Int.reduceEq, Int.reduceLE, Int.reduceLT, Int.reduceAdd, Int.reduceSub, Int.reduceMul, Int.reduceNeg, Nat.reduceEqDiff, iI_le, iI_lt, iI_eq]
                rw [if_pos (by omega)]
            obtain ⟨⟨o, w⟩, eo, o1, o2, o3⟩ := outer
            simp only at o1 o2 o3
            subst o1
            refine ⟨w, ?_, f2'.trans (o2.mono rfl rfl), o3⟩
            rw [eo]
            rfl
    · refine ⟨mSi s 61 (iI 0), ?_, f0, ?_⟩
      · simp only [if_neg hB, iI_lit, iI_add, iI_sub, iI_mul, iI_neg, Option.bind_some, if_true, if_false, Int.reduceEq, Int.reduceLE, Int.reduceLT, Int.reduceAdd, Int.reduceSub, Int.reduceMul, Int.reduceNeg, Nat.reduceEqDiff, if_neg (show ¬ ((0 ≤ b ∧ b < rB ρ) ∧ (0 ≤ c ∧ c < rB ρ) ∧ ¬ b = c ∧ ¬ landS ρ x b = 0 ∧ ¬ landS ρ x c = 0) from fun z => hB z.2.1)]
      · rw [if_neg (fun z => hB z.1.2.1)]; rfl
  · refine ⟨mSi s 61 (iI 0), ?_, f0, ?_⟩
    · simp only [if_neg hA, iI_lit, iI_add, iI_sub, iI_mul, iI_neg, Option.bind_some, if_true, if_false, Int.reduceEq, Int.reduceLE, Int.reduceLT, Int.reduceAdd, Int.reduceSub, Int.reduceMul, Int.reduceNeg, Nat.reduceEqDiff, if_neg (show ¬ ((0 ≤ b ∧ b < rB ρ) ∧ (0 ≤ c ∧ c < rB ρ) ∧ ¬ b = c ∧ ¬ landS ρ x b = 0 ∧ ¬ landS ρ x c = 0) from fun z => hA z.1)]
    · rw [if_neg (fun z => hA z.1.1)]; rfl
end B3

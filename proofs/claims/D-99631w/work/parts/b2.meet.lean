/-! LAYER 3: the model's meet, guests -/
set_option maxRecDepth 100000
def absI (z : Int) : Int := if 0 ≤ z then z else -z
theorem m_plain {z : Int} (h1 : -2147483648 < z) (h2 : z < 2147483648) : fm_plain (iI z) = some (iI (absI z)) := by
  simp (disch := omega) only [fm_plain, absI, iI_lit, iI_add, iI_sub, iI_mul, iI_neg, Option.bind_some, if_true, if_false, Int.reduceEq, Int.reduceLE, Int.reduceLT, Int.reduceAdd, Int.reduceSub, Int.reduceMul, Int.reduceNeg, Nat.reduceEqDiff, iI_le, iI_lt, iI_eq]
  split <;> rfl
def besN (f : Int → Int) : Nat → Int
  | 0 => 0
  | k + 1 => if besN f k = 0 then (if f k = 0 then 0 else if absI ((k : Int) / 8 - (k : Int) % 8) = 1 then 1 else 0) else 1
def wayF (ρ : Rv) (r k w : Int) (f : Int → Int) : Int → Int := if rIr ρ (8 * (r + 1) + colBy ρ (k / 8) r (w / 3 - 1) 1) = 0 then (if rIr ρ (8 * (r + 1) + colBy ρ (k % 8) r (w % 3 - 1) 1) = 0 then upI f (8 * colBy ρ (k / 8) r (w / 3 - 1) 1 + colBy ρ (k % 8) r (w % 3 - 1) 1) 1 else f) else f
def waysN (ρ : Rv) (r k : Int) (f : Int → Int) : Nat → Int → Int
  | 0 => f
  | w + 1 => wayF ρ r k w (waysN ρ r k f w)
def bothN (ρ : Rv) (r : Int) (f : Int → Int) : Nat → Int → Int
  | 0 => fun _ => 0
  | k + 1 => if f k = 0 then bothN ρ r f k else waysN ρ r k (bothN ρ r f k) 9
/-- both go on until they are side by side: j strokes are left -/
def metN (ρ : Rv) (r : Int) : Nat → (Int → Int) → Int → Int
  | 0, f, n => if besN f 64 = 0 then -1 else n
  | j + 1, f, n => if besN f 64 = 0 then metN ρ r j (bothN ρ (r + n) f 64) (n + 1) else n
def f01 (f : Int → Int) : Prop := ∀ z, f z = 0 ∨ f z = 1
theorem and1_0 : iI 0 &&& 1 = iI 0 := by decide
theorem and1_1 : iI 1 &&& 1 = iI 1 := by decide
theorem stb_1 {j n : Nat} {s : mS} {z v : Int} (h1 : 0 ≤ z) (h2 : z < n) (h3 : n < 2147483648) (hv : v = 0 ∨ v = 1) : stb j n s (iI z) (iI v) = some (aw s j z.toNat (iI v)) := by
  rw [stb_i h1 h2 h3]
  rcases hv with rfl | rfl
  · rw [and1_0]; rfl
  · rw [and1_1]; rfl
section B2
variable {ρ : Rv} {s : mS} {x : Int → Int}
theorem besN_01 (f : Int → Int) (k : Nat) : besN f k = 0 ∨ besN f k = 1 := by
  induction k with
  | zero => exact Or.inl rfl
  | succ k ih =>
    simp only [besN]
    repeat' split
    all_goals simp
theorem m_areBeside {f : Int → Int} (h30 : ar s 30 64 f) (hf : f01 f) : fm_areBeside s = some (iI (besN f 64)) := by
  have : lp (fm_areBeside_b4 s) (0, 0) = some (iI (besN f 64)) := by
    refine lp_seq (fun i => (iI (besN f i), iI i)) 64 (fun i hi => ?_) ?_
    · have h1 := h30 i (by omega) (by omega)
      have h2 := hf i
      have h3 := besN_01 f i
      have hp : -2147483648 < (i : Int) / 8 - (i : Int) % 8 := by omega
      have hp2 : (i : Int) / 8 - (i : Int) % 8 < 2147483648 := by omega
      have hab : 0 ≤ absI ((i : Int) / 8 - (i : Int) % 8) ∧ absI ((i : Int) / 8 - (i : Int) % 8) < 100 := by unfold absI; split <;> omega
      simp (disch := omega) only [fm_areBeside_b4, iI_lit, iI_add, iI_sub, iI_mul, iI_neg, Option.bind_some, if_true, if_false, Int.reduceEq, Int.reduceLE, Int.reduceLT, Int.reduceAdd, Int.reduceSub, Int.reduceMul, Int.reduceNeg, Nat.reduceEqDiff, iI_le, iI_lt, iI_eq, ld_i, sto_i, h1, dv_i, rm_i, m_plain hp hp2, besN]
      rw [if_neg (by omega)]
      repeat' split
      all_goals rfl
    · simp (disch := omega) only [fm_areBeside_b4, iI_lit, iI_add, iI_sub, iI_mul, iI_neg, Option.bind_some, if_true, if_false, Int.reduceEq, Int.reduceLE, Int.reduceLT, Int.reduceAdd, Int.reduceSub, Int.reduceMul, Int.reduceNeg, Nat.reduceEqDiff, iI_le, iI_lt, iI_eq]
      rfl
  unfold fm_areBeside
  rw [this]
  simp only [Option.bind_some]
  rcases besN_01 f 64 with h | h
  · rw [h]; exact if_pos (Or.inl rfl)
  · rw [h]; exact if_pos (Or.inr rfl)
theorem waysN_01 {r k : Int} {f : Int → Int} (hf : f01 f) (n : Nat) : f01 (waysN ρ r k f n) := by
  induction n with
  | zero => exact hf
  | succ n ih =>
    simp only [waysN, wayF]
    repeat' split
    · intro z
      unfold upI
      split
      · exact Or.inr rfl
      · exact ih z
    · exact ih
    · exact ih
theorem bothN_01 {r : Int} {f : Int → Int} (n : Nat) : f01 (bothN ρ r f n) := by
  induction n with
  | zero => exact fun z => Or.inl rfl
  | succ n ih =>
    simp only [bothN]
    split
    · exact ih
    · exact waysN_01 ih 9
theorem m_goBoth (hR : okR ρ s) (hw : wfR ρ) {r : Int} (h1 : 0 ≤ r) (h2 : r < rR ρ) {f : Int → Int} (h30 : ar s 30 64 f) (hf : f01 f) : ∃ s', fm_goBoth s (iI r) = some s' ∧ fr [] [30, 31] s s' ∧ ar s' 30 64 (bothN ρ r f 64) := by
  have hr := hw.2.1
  have hC := hw.1
  have hir := hw.2.2.2.2.2.2.2.2.1
  have l1 : ∃ q, lp (fm_goBoth_b2 (iI r)) (0, s) = some q ∧ (fr [] [31] s q ∧ ar q 31 64 (fun _ => 0)) := by
    refine lp_inv (fun i q => q.1 = iI i ∧ fr [] [31] s q.2 ∧ ar q.2 31 i (fun _ => 0)) 64 ?_ ?_ ⟨rfl, fr.refl, fun z z1 z2 => by omega⟩
    · rintro i ⟨k, u⟩ hi ⟨g1, g2, g3⟩
      simp only at g1 g2 g3
      subst g1
      left
      refine ⟨(iI ((i : Int) + 1), aw u 31 (i : Int).toNat (iI 0)), ?_, rfl, g2.aw rfl, fun z z1 z2 => ?_⟩
      · simp (disch := omega) only [fm_goBoth_b2, iI_lit, iI_add, iI_sub, iI_mul, iI_neg, Option.bind_some, if_true, if_false, Int.reduceEq, Int.reduceLE, Int.reduceLT, Int.reduceAdd, Int.reduceSub, Int.reduceMul, Int.reduceNeg, Nat.reduceEqDiff, iI_le, iI_lt, iI_eq, stb_1, true_or]
        rw [if_neg (by omega)]
      · simp only [aw_get, true_and]
        split
        · rfl
        · exact g3 z z1 (by omega)
    · rintro ⟨k, u⟩ ⟨g1, g2, g3⟩
      simp only at g1 g2 g3
      subst g1
      refine ⟨u, ?_, g2, g3⟩
      simp (disch := omega) only [fm_goBoth_b2, iI_lit, iI_add, iI_sub, iI_mul, iI_neg, Option.bind_some, if_true, if_false, Int.reduceEq, Int.reduceLE, Int.reduceLT, Int.reduceAdd, Int.reduceSub, Int.reduceMul, Int.reduceNeg, Nat.reduceEqDiff, iI_le, iI_lt, iI_eq]
      rfl
  obtain ⟨s1, e1, f1, a1⟩ := l1
  have l2 : ∀ (k : Nat) (u : mS) (g : Int → Int), k < 64 → fr [] [30, 31] s u → ar u 30 64 f → ar u 31 64 g → f01 g → ∃ q, lp (fm_goBoth_b31 (iI r) (iI k)) (iI 0, u) = some q ∧ (fr [] [30, 31] s q ∧ ar q 30 64 f ∧ ar q 31 64 (if f k = 0 then g else waysN ρ r k g 9)) := by
    intro k u g hk hfu h30 h31 hg
    have hk1 := h30 k (by omega) (by omega)
    by_cases h0 : f k = 0
    · refine ⟨u, lp_out ?_, hfu, h30, by rw [if_pos h0]; exact h31⟩
      rw [h0] at hk1
      simp (disch := omega) only [fm_goBoth_b31, iI_lit, iI_add, iI_sub, iI_mul, iI_neg, Option.bind_some, if_true, if_false, Int.reduceEq, Int.reduceLE, Int.reduceLT, Int.reduceAdd, Int.reduceSub, Int.reduceMul, Int.reduceNeg, Nat.reduceEqDiff, iI_le, iI_lt, iI_eq, ld_i, sto_i, hk1]
    · rw [if_neg h0]
      refine lp_inv (fun i q => q.1 = iI i ∧ fr [] [30, 31] s q.2 ∧ ar q.2 30 64 f ∧ ar q.2 31 64 (waysN ρ r k g i)) 9 ?_ ?_ ⟨rfl, hfu, h30, h31⟩
      · rintro i ⟨j, w⟩ hi ⟨g1, g2, g3, g4⟩
        simp only at g1 g2 g3 g4
        subst g1
        have hRw := hR.fr g2 rfl rfl
        have hk2 := g3 k (by omega) (by omega)
        have c1 := colBy_b hw ((k : Int) / 8) r ((i : Int) / 3 - 1) 1
        have c2 := colBy_b hw ((k : Int) % 8) r ((i : Int) % 3 - 1) 1
        have i1 := hir (8 * (r + 1) + colBy ρ ((k : Int) / 8) r ((i : Int) / 3 - 1) 1) (by omega) (by omega)
        have i2 := hir (8 * (r + 1) + colBy ρ ((k : Int) % 8) r ((i : Int) % 3 - 1) 1) (by omega) (by omega)
        have e3 := m_columnBy hRw hw (c := (k : Int) / 8) (r := r) (t := (i : Int) / 3 - 1) (k := 1) (by omega) (by omega) (by omega) (by omega) (by omega) (by omega) (by omega) (by omega)
        have e4 := m_columnBy hRw hw (c := (k : Int) % 8) (r := r) (t := (i : Int) % 3 - 1) (k := 1) (by omega) (by omega) (by omega) (by omega) (by omega) (by omega) (by omega) (by omega)
        have e5 := m_isIron hRw hw (c := colBy ρ ((k : Int) / 8) r ((i : Int) / 3 - 1) 1) (r := r + 1) (by omega) (by omega)
        have e6 := m_isIron hRw hw (c := colBy ρ ((k : Int) % 8) r ((i : Int) % 3 - 1) 1) (r := r + 1) (by omega) (by omega)
        have hfk := hf k
        left
        simp (disch := omega) only [fm_goBoth_b31, iI_lit, iI_add, iI_sub, iI_mul, iI_neg, Option.bind_some, if_true, if_false, Int.reduceEq, Int.reduceLE, Int.reduceLT, Int.reduceAdd, Int.reduceSub, Int.reduceMul, Int.reduceNeg, Nat.reduceEqDiff, iI_le, iI_lt, iI_eq, ld_i, sto_i, hk2, dv_i, rm_i, e3, e4, e5, e6, waysN, wayF]
        rw [if_neg (by omega), if_neg h0]
        by_cases q1 : rIr ρ (8 * (r + 1) + colBy ρ ((k : Int) / 8) r ((i : Int) / 3 - 1) 1) = 0
        · rw [if_pos q1, if_pos q1]
          by_cases q2 : rIr ρ (8 * (r + 1) + colBy ρ ((k : Int) % 8) r ((i : Int) % 3 - 1) 1) = 0
          · rw [if_pos q2, if_pos q2, stb_1 (by omega) (by omega) (by omega) (Or.inr rfl)]
            exact ⟨_, rfl, rfl, g2.aw rfl, ar_awn g3 rfl, ar_aw g4 (by omega)⟩
          · rw [if_neg q2, if_neg q2]
            exact ⟨_, rfl, rfl, g2, g3, g4⟩
        · rw [if_neg q1, if_neg q1]
          exact ⟨_, rfl, rfl, g2, g3, g4⟩
      · rintro ⟨j, w⟩ ⟨g1, g2, g3, g4⟩
        simp only at g1 g2 g3 g4
        subst g1
        refine ⟨w, ?_, g2, g3, g4⟩
        simp (disch := omega) only [fm_goBoth_b31, iI_lit, iI_add, iI_sub, iI_mul, iI_neg, Option.bind_some, if_true, if_false, Int.reduceEq, Int.reduceLE, Int.reduceLT, Int.reduceAdd, Int.reduceSub, Int.reduceMul, Int.reduceNeg, Nat.reduceEqDiff, iI_le, iI_lt, iI_eq]
        rfl
  have l3 : ∃ q, lp (fm_goBoth_b23 (iI r)) (0, s1) = some q ∧ (fr [] [30, 31] s q ∧ ar q 30 64 f ∧ ar q 31 64 (bothN ρ r f 64)) := by
    refine lp_inv (fun i q => q.1 = iI i ∧ fr [] [30, 31] s q.2 ∧ ar q.2 30 64 f ∧ ar q.2 31 64 (bothN ρ r f i)) 64 ?_ ?_ ⟨rfl, f1.mono rfl rfl, f1.ar h30 rfl, a1⟩
    · rintro i ⟨k, u⟩ hi ⟨g1, g2, g3, g4⟩
      simp only at g1 g2 g3 g4
      subst g1
      obtain ⟨q, eq, q1, q2, q3⟩ := l2 i u _ hi g2 g3 g4 (bothN_01 i)
      left
      refine ⟨(iI ((i : Int) + 1), q), ?_, rfl, q1, q2, by simp only [bothN]; split <;> (rename_i hh; first | rw [if_pos hh] at q3 | rw [if_neg hh] at q3) <;> exact q3⟩
      simp (disch := omega) only [fm_goBoth_b23, iI_lit, iI_add, iI_sub, iI_mul, iI_neg, Option.bind_some, if_true, if_false, Int.reduceEq, Int.reduceLE, Int.reduceLT, Int.reduceAdd, Int.reduceSub, Int.reduceMul, Int.reduceNeg, Nat.reduceEqDiff, iI_le, iI_lt, iI_eq, eq]
      rw [if_neg (by omega)]
    · rintro ⟨k, u⟩ ⟨g1, g2, g3, g4⟩
      simp only at g1 g2 g3 g4
      subst g1
      refine ⟨u, ?_, g2, g3, g4⟩
      simp (disch := omega) only [fm_goBoth_b23, iI_lit, iI_add, iI_sub, iI_mul, iI_neg, Option.bind_some, if_true, if_false, Int.reduceEq, Int.reduceLE, Int.reduceLT, Int.reduceAdd, Int.reduceSub, Int.reduceMul, Int.reduceNeg, Nat.reduceEqDiff, iI_le, iI_lt, iI_eq]
      rfl
  obtain ⟨s2, e2, f2, a2, a3⟩ := l3
  have l4 : ∃ q, lp fm_goBoth_b132 (0, s2) = some q ∧ (fr [] [30, 31] s q ∧ ar q 30 64 (bothN ρ r f 64)) := by
    refine lp_inv (fun i q => q.1 = iI i ∧ fr [] [30, 31] s q.2 ∧ ar q.2 31 64 (bothN ρ r f 64) ∧ ar q.2 30 i (bothN ρ r f 64)) 64 ?_ ?_ ⟨rfl, f2, a3, fun z z1 z2 => by omega⟩
    · rintro i ⟨k, u⟩ hi ⟨g1, g2, g3, g4⟩
      simp only at g1 g2 g3 g4
      subst g1
      have hk := g3 i (by omega) (by omega)
      left
      refine ⟨(iI ((i : Int) + 1), aw u 30 (i : Int).toNat (iI (bothN ρ r f 64 i))), ?_, rfl, g2.aw rfl, ar_awn g3 rfl, fun z z1 z2 => ?_⟩
      · simp (disch := omega) only [fm_goBoth_b132, iI_lit, iI_add, iI_sub, iI_mul, iI_neg, Option.bind_some, if_true, if_false, Int.reduceEq, Int.reduceLE, Int.reduceLT, Int.reduceAdd, Int.reduceSub, Int.reduceMul, Int.reduceNeg, Nat.reduceEqDiff, iI_le, iI_lt, iI_eq, ld_i, sto_i, hk]
        rw [if_neg (by omega), stb_1 (by omega) (by omega) (by omega) (bothN_01 64 i)]
        rfl
      · simp only [aw_get, true_and]
        split
        · rename_i hz
          rw [show z = (i : Int) by omega]
        · exact g4 z z1 (by omega)
    · rintro ⟨k, u⟩ ⟨g1, g2, g3, g4⟩
      simp only at g1 g2 g3 g4
      subst g1
      refine ⟨u, ?_, g2, g4⟩
      simp (disch := omega) only [fm_goBoth_b132, iI_lit, iI_add, iI_sub, iI_mul, iI_neg, Option.bind_some, if_true, if_false, Int.reduceEq, Int.reduceLE, Int.reduceLT, Int.reduceAdd, Int.reduceSub, Int.reduceMul, Int.reduceNeg, Nat.reduceEqDiff, iI_le, iI_lt, iI_eq]
      rfl
  obtain ⟨s3, e3, f3, a4⟩ := l4
  refine ⟨s3, ?_, f3, a4⟩
  unfold fm_goBoth
  rw [e1]
  simp only [Option.bind_some]
  rw [e2]
  simp only [Option.bind_some]
  rw [e3]
  rfl
theorem m_meetLoop (hR : okR ρ s) (hw : wfR ρ) (ha : ar s 22 28 x) (hx : wfS ρ x) {b : Int} (h1 : 0 ≤ b) (h2 : b < rB ρ) : ∀ (j : Nat) (u : mS) (f : Int → Int) (n : Int), fr [] [30, 31] s u → ar u 30 64 f → f01 f → n + j = lft ρ x b → 0 ≤ n → ∃ r, lp (fm_meet_b89 (iI b)) (iI n, u) = some r ∧ ∃ s', Sum.elim (fun q => (iI (-1), q)) id r = (iI (metN ρ (x (4 + b)) j f n), s') ∧ fr [] [30, 31] s s' := by
  have h5 := lft_b hw hx h1 h2
  have hb := hw.2.2.1
  have hx1 := hx.1 b h1 h2
  have hrr : lft ρ x b = rR ρ - x (4 + b) := rfl
  intro j
  induction j with
  | zero =>
    intro u f n hfu h30 hf hn hn0
    have hRu := hR.fr hfu rfl rfl
    have e1 : fm_leftOf u (iI b) = some (iI (lft ρ x b)) := m_leftOf hRu (hfu.ar ha rfl) h1 (by omega)
    have e2 := m_areBeside h30 hf
    simp only [metN]
    rcases besN_01 f 64 with h0 | h0
    · rw [if_pos h0]
      have hbody : fm_meet_b89 (iI b) (iI n, u) = some (.inl (iI (n + 1), u)) := by
        simp (disch := omega) only [fm_meet_b89, e1, e2, iI_lit, iI_add, iI_sub, iI_mul, iI_neg, Option.bind_some, if_true, if_false, Int.reduceEq, Int.reduceLE, Int.reduceLT, Int.reduceAdd, Int.reduceSub, Int.reduceMul, Int.reduceNeg, Nat.reduceEqDiff, iI_le, iI_lt, iI_eq, h0]
        rw [if_neg (by omega), if_pos (by omega)]
      refine ⟨.inl u, (lp_back hbody).trans (lp_out ?_), u, rfl, hfu⟩
      simp (disch := omega) only [fm_meet_b89, e1, iI_lit, iI_add, iI_sub, iI_mul, iI_neg, Option.bind_some, if_true, if_false, Int.reduceEq, Int.reduceLE, Int.reduceLT, Int.reduceAdd, Int.reduceSub, Int.reduceMul, Int.reduceNeg, Nat.reduceEqDiff, iI_le, iI_lt, iI_eq]
      rw [if_pos (by omega)]
    · rw [if_neg (by omega)]
      refine ⟨.inr (iI n, u), lp_out ?_, u, rfl, hfu⟩
      simp (disch := omega) only [fm_meet_b89, e1, e2, iI_lit, iI_add, iI_sub, iI_mul, iI_neg, Option.bind_some, if_true, if_false, Int.reduceEq, Int.reduceLE, Int.reduceLT, Int.reduceAdd, Int.reduceSub, Int.reduceMul, Int.reduceNeg, Nat.reduceEqDiff, iI_le, iI_lt, iI_eq, h0]
      rw [if_neg (by omega)]
  | succ j ih =>
    intro u f n hfu h30 hf hn hn0
    have hRu := hR.fr hfu rfl rfl
    have hau := hfu.ar ha rfl (j := 22)
    have e1 : fm_leftOf u (iI b) = some (iI (lft ρ x b)) := m_leftOf hRu hau h1 (by omega)
    have e2 := m_areBeside h30 hf
    have h4 := hau (4 + b) (by omega) (by omega)
    simp only [metN]
    rcases besN_01 f 64 with h0 | h0
    · rw [if_pos h0]
      obtain ⟨u2, e3, f3, a3⟩ := m_goBoth hRu hw (r := x (4 + b) + n) (by omega) (by omega) h30 hf
      have hbody : fm_meet_b89 (iI b) (iI n, u) = some (.inl (iI (n + 1), u2)) := by
        simp (disch := omega) only [fm_meet_b89, e1, e2, iI_lit, iI_add, iI_sub, iI_mul, iI_neg, Option.bind_some, if_true, if_false, Int.reduceEq, Int.reduceLE, Int.reduceLT, Int.reduceAdd, Int.reduceSub, Int.reduceMul, Int.reduceNeg, Nat.reduceEqDiff, iI_le, iI_lt, iI_eq, ld_i, sto_i, h0, h4, e3]
        rw [if_neg (by omega), if_neg (by omega)]
      obtain ⟨r, er, s', es, fs⟩ := ih u2 _ (n + 1) (hfu.trans f3) a3 (bothN_01 64) (by omega) (by omega)
      exact ⟨r, (lp_back hbody).trans er, s', es, fs⟩
    · rw [if_neg (by omega)]
      refine ⟨.inr (iI n, u), lp_out ?_, u, rfl, hfu⟩
      simp (disch := omega) only [fm_meet_b89, e1, e2, iI_lit, iI_add, iI_sub, iI_mul, iI_neg, Option.bind_some, if_true, if_false, Int.reduceEq, Int.reduceLE, Int.reduceLT, Int.reduceAdd, Int.reduceSub, Int.reduceMul, Int.reduceNeg, Nat.reduceEqDiff, iI_le, iI_lt, iI_eq, h0]
      rw [if_neg (by omega)]
def meetF (x : Int → Int) (b c : Int) : Int → Int := fun z => if z = 8 * x b + x c then 1 else 0
theorem m_meet (hR : okR ρ s) (hw : wfR ρ) (ha : ar s 22 28 x) (hx : wfS ρ x) {b c : Int} (h1 : -2147483648 ≤ b) (h2 : b < 2147483648) (h3 : -2147483648 ≤ c) (h4 : c < 2147483648) : ∃ s', fm_meet s (iI b) (iI c) = some (iI (if (0 ≤ b ∧ b < rB ρ) ∧ (0 ≤ c ∧ c < rB ρ) ∧ ¬ b = c ∧ x (4 + b) = x (4 + c) then metN ρ (x (4 + b)) (lft ρ x b).toNat (meetF x b c) 0 else -1), s') ∧ fr [] [30, 31] s s' := by
  unfold fm_meet
  rw [m_isBoard hR hw h1 h2]
  by_cases hA : 0 ≤ b ∧ b < rB ρ
  · by_cases hB : 0 ≤ c ∧ c < rB ρ
    · have hb := hw.2.2.1
      have hr := hw.2.1
      have hC := hw.1
      have x1 := hx.1 b hA.1 hA.2
      have x2 := hx.1 c hB.1 hB.2
      have a1 := ha (4 + b) (by omega) (by omega)
      have a2 := ha (4 + c) (by omega) (by omega)
      simp (disch := omega) only [if_pos hA, if_pos hB, iI_lit, iI_add, iI_sub, iI_mul, iI_neg, Option.bind_some, if_true, if_false, Int.reduceEq, Int.reduceLE, Int.reduceLT, Int.reduceAdd, Int.reduceSub, Int.reduceMul, Int.reduceNeg, Nat.reduceEqDiff, iI_le, iI_lt, iI_eq, ld_i, sto_i, show ¬ iI 1 = iI 0 by decide, m_isBoard hR hw h3 h4, a1, a2]
      by_cases q1 : b = c
      · refine ⟨s, ?_, fr.refl⟩
        rw [if_pos q1, if_neg (fun z => z.2.2.1 q1)]
      · rw [if_neg q1]
        by_cases q2 : x (4 + b) = x (4 + c)
        · have hall : (0 ≤ b ∧ b < rB ρ) ∧ (0 ≤ c ∧ c < rB ρ) ∧ ¬ b = c ∧ x (4 + b) = x (4 + c) := ⟨hA, hB, q1, q2⟩
          have l1 : ∃ q, lp (fm_meet_b44 (iI b) (iI c)) (iI 0, s) = some q ∧ (fr [] [30, 31] s q ∧ ar q 30 64 (meetF x b c)) := by
            refine lp_inv (fun i q => q.1 = iI i ∧ fr [] [30, 31] s q.2 ∧ ar q.2 30 i (meetF x b c)) 64 ?_ ?_ ⟨rfl, fr.refl, fun z z1 z2 => by omega⟩
            · rintro i ⟨k, u⟩ hi ⟨g1, g2, g3⟩
              simp only at g1 g2 g3
              subst g1
              have hau := g2.ar ha rfl (j := 22)
              have a3 := hau b (by omega) (by omega)
              have a4 := hau c (by omega) (by omega)
              left
              refine ⟨(iI ((i : Int) + 1), aw u 30 (i : Int).toNat (iI (meetF x b c i))), ?_, rfl, g2.aw rfl, fun z z1 z2 => ?_⟩
              · simp (disch := omega) only [fm_meet_b44, iI_lit, iI_add, iI_sub, iI_mul, iI_neg, Option.bind_some, if_true, if_false, Int.reduceEq, Int.reduceLE, Int.reduceLT, Int.reduceAdd, Int.reduceSub, Int.reduceMul, Int.reduceNeg, Nat.reduceEqDiff, iI_le, iI_lt, iI_eq, ld_i, sto_i, a3, a4, meetF]
                rw [if_neg (by omega)]
                split
                · rw [stb_1 (by omega) (by omega) (by omega) (Or.inr rfl)]; rfl
                · rw [stb_1 (by omega) (by omega) (by omega) (Or.inl rfl)]; rfl
              · simp only [aw_get, true_and]
                split
                · rename_i hz
                  rw [show z = (i : Int) by omega]
                · exact g3 z z1 (by omega)
            · rintro ⟨k, u⟩ ⟨g1, g2, g3⟩
              simp only at g1 g2 g3
              subst g1
              refine ⟨u, ?_, g2, g3⟩
              simp (disch := omega) only [fm_meet_b44, iI_lit, iI_add, iI_sub, iI_mul, iI_neg, Option.bind_some, if_true, if_false, Int.reduceEq, Int.reduceLE, Int.reduceLT, Int.reduceAdd, Int.reduceSub, Int.reduceMul, Int.reduceNeg, Nat.reduceEqDiff, iI_le, iI_lt, iI_eq]
              rfl
          obtain ⟨s1, e1, f1, b1⟩ := l1
          have h5 := lft_b hw hx hA.1 hA.2
          obtain ⟨r, er, s', es, fs⟩ := m_meetLoop (hR.fr f1 rfl rfl) hw (f1.ar ha rfl) hx hA.1 hA.2 (lft ρ x b).toNat s1 _ 0 fr.refl b1 (fun z => by unfold meetF; split <;> simp) (by omega) (by omega)
          refine ⟨s', ?_, f1.trans fs⟩
          rw [if_pos q2, if_pos hall, e1]
          simp only [Option.bind_some]
          rw [er]
          simp only [Option.bind_some]
          rw [← es]
          cases r <;> rfl
        · refine ⟨s, ?_, fr.refl⟩
          rw [if_neg q2, if_neg (fun z => q2 z.2.2.2)]
    · refine ⟨s, ?_, fr.refl⟩
      simp (disch := omega) only [if_pos hA, if_neg hB, iI_lit, iI_add, iI_sub, iI_mul, iI_neg, Option.bind_some, if_true, if_false, Int.reduceEq, Int.reduceLE, Int.reduceLT, Int.reduceAdd, Int.reduceSub, Int.reduceMul, Int.reduceNeg, Nat.reduceEqDiff, show ¬ iI 1 = iI 0 by decide, m_isBoard hR hw h3 h4, if_neg (show ¬ ((0 ≤ b ∧ b < rB ρ) ∧ (0 ≤ c ∧ c < rB ρ) ∧ ¬ b = c ∧ x (4 + b) = x (4 + c)) from fun z => hB z.2.1)]
  · refine ⟨s, ?_, fr.refl⟩
    simp only [if_neg hA, iI_lit, iI_add, iI_sub, iI_mul, iI_neg, Option.bind_some, if_true, if_false, Int.reduceEq, Int.reduceLE, Int.reduceLT, Int.reduceAdd, Int.reduceSub, Int.reduceMul, Int.reduceNeg, Nat.reduceEqDiff, if_neg (show ¬ ((0 ≤ b ∧ b < rB ρ) ∧ (0 ≤ c ∧ c < rB ρ) ∧ ¬ b = c ∧ x (4 + b) = x (4 + c)) from fun z => hA z.1)]
end B2

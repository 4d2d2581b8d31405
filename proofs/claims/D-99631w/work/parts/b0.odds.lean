/-! LAYER 3: the model's odds; sets of loads -/
set_option maxRecDepth 100000
def membN (S : Int) : Nat → Int
  | 0 => 0
  | k + 1 => membN S k + bit S k
theorem membN_b (S : Int) (k : Nat) : 0 ≤ membN S k ∧ membN S k ≤ k := by
  induction k with
  | zero => exact ⟨Int.le_refl _, Int.le_refl _⟩
  | succ k ih =>
    have := bit_01 S k
    simp only [membN]
    omega
theorem m_members {S : Int} (h1 : 0 ≤ S) (h2 : S < 256) : fm_members (iI S) = some (iI (membN S 8)) := by
  have : lp (fm_members_b4 (iI S)) (0, 0) = some (iI (membN S 8)) := by
    refine lp_seq (fun i => (iI (membN S i), iI i)) 8 (fun i hi => ?_) ?_
    · simp (disch := omega) only [fm_members_b4, iI_lit, iI_add, iI_sub, iI_mul, iI_neg, Option.bind_some, if_true, if_false, Int.reduceEq, Int.reduceLE, Int.reduceLT, Int.reduceAdd, Int.reduceSub, Int.reduceMul, Int.reduceNeg, Nat.reduceEqDiff, iI_le, iI_lt, iI_eq, bit_i, membN]
      rw [if_neg (by omega)]
      rfl
    · simp (disch := omega) only [fm_members_b4, iI_lit, iI_add, iI_sub, iI_mul, iI_neg, Option.bind_some, if_true, if_false, Int.reduceEq, Int.reduceLE, Int.reduceLT, Int.reduceAdd, Int.reduceSub, Int.reduceMul, Int.reduceNeg, Nat.reduceEqDiff, iI_le, iI_lt, iI_eq]
      rfl
  unfold fm_members
  rw [this]
  rfl
theorem m_divisor {a b : Int} (h1 : 0 ≤ a) (h2 : a < 2147483648) (h3 : 0 ≤ b) (h4 : b < 2147483648) : fm_divisor (iI a) (iI b) = some (iI (Int.gcd a b)) := by
  have : ∃ r, lp fm_divisor_b4 (iI a, iI b) = some r ∧ r = iI (Int.gcd a b) := by
    refine lp_inv (fun i q => ∃ c d : Int, q = (iI c, iI d) ∧ 0 ≤ c ∧ c < 2147483648 ∧ 0 ≤ d ∧ d < 2147483648 ∧ d + i ≤ b ∧ Int.gcd c d = Int.gcd a b) b.toNat ?_ ?_ ⟨a, b, rfl, h1, h2, h3, h4, by omega, rfl⟩
    · rintro i q hi ⟨c, d, rfl, c1, c2, d1, d2, d3, hg⟩
      by_cases hd : d ≤ 0
      · right
        have : d = 0 := by omega
        subst this
        refine ⟨iI c, ?_, ?_⟩
        · simp (disch := omega) only [fm_divisor_b4, iI_lit, iI_add, iI_sub, iI_mul, iI_neg, Option.bind_some, if_true, if_false, Int.reduceEq, Int.reduceLE, Int.reduceLT, Int.reduceAdd, Int.reduceSub, Int.reduceMul, Int.reduceNeg, Nat.reduceEqDiff, iI_le, iI_lt, iI_eq]
        · rw [← hg]
          simp only [Int.gcd_zero]
          congr 1
          omega
      · left
        have hm1 := Int.emod_nonneg c (show d ≠ 0 by omega)
        have hm2 := Int.emod_lt_of_pos c (show 0 < d by omega)
        refine ⟨(iI d, iI (c % d)), ?_, d, c % d, rfl, by omega, by omega, by omega, by omega, by omega, ?_⟩
        · simp (disch := omega) only [fm_divisor_b4, iI_lit, iI_add, iI_sub, iI_mul, iI_neg, Option.bind_some, if_true, if_false, Int.reduceEq, Int.reduceLE, Int.reduceLT, Int.reduceAdd, Int.reduceSub, Int.reduceMul, Int.reduceNeg, Nat.reduceEqDiff, iI_le, iI_lt, iI_eq, rm_i]
          rw [if_neg hd]
        · rw [← hg]
          obtain ⟨c', rfl⟩ : ∃ c' : Nat, c = c' := ⟨c.toNat, by omega⟩
          obtain ⟨d', rfl⟩ : ∃ d' : Nat, d = d' := ⟨d.toNat, by omega⟩
          have e : ((c' : Int) % (d' : Int)) = ((c' % d' : Nat) : Int) := by omega
          rw [e]
          simp only [Int.gcd_natCast_natCast]
          rw [Nat.gcd_comm c' d', Nat.gcd_rec d' c', Nat.gcd_comm]
    · rintro q ⟨c, d, rfl, c1, c2, d1, d2, d3, hg⟩
      have : d = 0 := by omega
      subst this
      refine ⟨iI c, ?_, ?_⟩
      · simp (disch := omega) only [fm_divisor_b4, iI_lit, iI_add, iI_sub, iI_mul, iI_neg, Option.bind_some, if_true, if_false, Int.reduceEq, Int.reduceLE, Int.reduceLT, Int.reduceAdd, Int.reduceSub, Int.reduceMul, Int.reduceNeg, Nat.reduceEqDiff, iI_le, iI_lt, iI_eq]
      · rw [← hg]
        simp only [Int.gcd_zero]
        congr 1
        omega
  obtain ⟨r, e, rfl⟩ := this
  unfold fm_divisor
  rw [e]
  rfl
/-- unsteered, by a set of floods -/
def flR (ρ : Rv) (x : Int → Int) (b S : Int) : Int × (Int → Int) := genR ρ x b (fun _ => 0) (fun k => 1 + bit S k) (lft ρ x b).toNat
def fland (ρ : Rv) (x : Int → Int) (b c S : Int) : Int := if (flR ρ x b S).1 = 0 then 0 else if (flR ρ x b S).2 b = c then 1 else 0
def flW (ρ : Rv) (n S : Int) : Int := rF ρ ^ (membN S 8).toNat * (100 - rF ρ) ^ (n - membN S 8).toNat
def oddN (ρ : Rv) (x : Int → Int) (b c : Int) : Nat → Int
  | 0 => 0
  | k + 1 => oddN ρ x b c k + (if fland ρ x b c k = 0 then 0 else flW ρ (lft ρ x b) k)
section B0
variable {ρ : Rv} {s : mS} {x : Int → Int}
theorem m_landsBy (hR : okR ρ s) (hw : wfR ρ) (ha : ar s 22 28 x) (hx : wfS ρ x) {b c S : Int} (h1 : 0 ≤ b) (h2 : b < rB ρ) (h3 : 0 ≤ c) (h4 : c < 8) (h6 : 0 ≤ S) (h7 : S < 256) : ∃ s', fm_landsBy s (iI b) (iI c) (iI S) = some (iI (fland ρ x b c S), s') ∧ fr [] [8, 9, 23] s s' := by
  have h5 := lft_b hw hx h1 h2
  have hb := hw.2.2.1
  have hC := hw.1
  have hrr : lft ρ x b = rR ρ - x (4 + b) := rfl
  have hx1 := hx.1 b h1 h2
  obtain ⟨s1, e1, f1, a1⟩ := m_fill ha
  have hR1 := hR.fr f1 rfl rfl
  have ha1 := f1.ar ha rfl
  have : ∃ r, lp (fm_landsBy_b10 (iI b) (iI c) (iI S)) (1, 0, s1) = some r ∧ (r.1 = iI (flR ρ x b S).1 ∧ fr [] [8, 9, 23] s1 r.2 ∧ ar r.2 23 28 (flR ρ x b S).2) := by
    refine lp_inv (fun i q => q.1 = iI (genR ρ x b (fun _ => 0) (fun k => 1 + bit S k) i).1 ∧ q.2.1 = iI i ∧ fr [] [8, 9, 23] s1 q.2.2 ∧ ar q.2.2 23 28 (genR ρ x b (fun _ => 0) (fun k => 1 + bit S k) i).2) (lft ρ x b).toNat ?_ ?_ ⟨rfl, rfl, fr.refl, a1⟩
    · rintro i ⟨o, k, u⟩ hi ⟨g1, g2, g3, g4⟩
      simp only at g1 g2 g3 g4
      subst g1 g2
      have hRu := hR1.fr g3 rfl rfl
      have e2 : fm_leftOf u (iI b) = some (iI (lft ρ x b)) := m_leftOf hRu (g3.ar ha1 rfl) h1 (by omega)
      obtain ⟨w1, w2, w3⟩ := genR_wf (t := fun _ => 0) (f := fun k => 1 + bit S k) hw hx h1 h2 i (by omega)
      rcases genR_01 (ρ := ρ) (x := x) (b := b) (t := fun _ => 0) (f := fun k => 1 + bit S k) i with h0 | h0
      · right
        have he : flR ρ x b S = genR ρ x b (fun _ => 0) (fun k => 1 + bit S k) i := by
          have := genR_stop ((lft ρ x b).toNat - i) h0 (i := i)
          rwa [show i + ((lft ρ x b).toNat - i) = (lft ρ x b).toNat by omega] at this
        refine ⟨(iI (genR ρ x b (fun _ => 0) (fun k => 1 + bit S k) i).1, u), ?_, by rw [he], g3, by rw [he]; exact g4⟩
        simp (disch := omega) only [fm_landsBy_b10, e2, iI_lit, iI_add, iI_sub, iI_mul, iI_neg, Option.bind_some, if_true, if_false, Int.reduceEq, Int.reduceLE, Int.reduceLT, Int.reduceAdd, Int.reduceSub, Int.reduceMul, Int.reduceNeg, Nat.reduceEqDiff, iI_le, iI_lt, iI_eq, h0]
        rw [if_neg (by omega)]
      · left
        have hrow := w2 h0
        have hbit := bit_01 S i
        obtain ⟨u2, e4, f4, a4⟩ := m_goStroke hRu hw g4 w1 (t := 0) (on := 1) (k := 1 + bit S i) h1 h2 (by omega) (by omega) (by omega) (by omega) (by omega) (by omega)
        have hvr := strV_r (tt := 0) (on := 1) (k := 1 + bit S i) hw w1 h1 h2 (by omega) (by omega)
        have hs1 : genR ρ x b (fun _ => 0) (fun k => 1 + bit S k) (i + 1) = (if strV ρ (genR ρ x b (fun _ => 0) (fun k => 1 + bit S k) i).2 b 0 1 (1 + bit S i) % 2 = 0 then 1 else 0, strS ρ (genR ρ x b (fun _ => 0) (fun k => 1 + bit S k) i).2 b 0 1 (1 + bit S i)) := by
          simp only [genR]
          rw [if_neg (by omega)]
        refine ⟨(iI (genR ρ x b (fun _ => 0) (fun k => 1 + bit S k) (i + 1)).1, iI ((i : Int) + 1), u2), ?_, rfl, rfl, g3.trans f4, by rw [hs1]; exact a4⟩
        rw [hs1]
        simp (disch := omega) only [fm_landsBy_b10, e2, iI_lit, iI_add, iI_sub, iI_mul, iI_neg, Option.bind_some, if_true, if_false, Int.reduceEq, Int.reduceLE, Int.reduceLT, Int.reduceAdd, Int.reduceSub, Int.reduceMul, Int.reduceNeg, Nat.reduceEqDiff, iI_le, iI_lt, iI_eq, h0, bit_i, e4, rm_i]
        rw [if_neg (by omega)]
        split <;> rfl
    · rintro ⟨o, k, u⟩ ⟨g1, g2, g3, g4⟩
      simp only at g1 g2 g3 g4
      subst g1 g2
      have hRu := hR1.fr g3 rfl rfl
      have e2 : fm_leftOf u (iI b) = some (iI (lft ρ x b)) := m_leftOf hRu (g3.ar ha1 rfl) h1 (by omega)
      refine ⟨(iI (flR ρ x b S).1, u), ?_, rfl, g3, g4⟩
      simp (disch := omega) only [fm_landsBy_b10, e2, iI_lit, iI_add, iI_sub, iI_mul, iI_neg, Option.bind_some, if_true, if_false, Int.reduceEq, Int.reduceLE, Int.reduceLT, Int.reduceAdd, Int.reduceSub, Int.reduceMul, Int.reduceNeg, Nat.reduceEqDiff, iI_le, iI_lt, iI_eq]
      rw [if_pos (by omega)]
      rfl
  obtain ⟨⟨o, u⟩, e, g1, g2, g3⟩ := this
  simp only at g1 g2 g3
  subst g1
  have hwf := (genR_wf (t := fun _ => 0) (f := fun k => 1 + bit S k) hw hx h1 h2 (lft ρ x b).toNat (by omega)).1.1 b h1 h2
  rw [show genR ρ x b (fun _ => 0) (fun k => 1 + bit S k) (lft ρ x b).toNat = flR ρ x b S from rfl] at hwf
  have ac := g3 b (by omega) (by omega)
  refine ⟨u, ?_, (f1.mono rfl rfl).trans g2⟩
  unfold fm_landsBy
  rw [e1]
  simp only [Option.bind_some]
  rw [e]
  simp only [Option.bind_some, fm_landsBy_j58, fland]
  rcases genR_01 (ρ := ρ) (x := x) (b := b) (t := fun _ => 0) (f := fun k => 1 + bit S k) (lft ρ x b).toNat with h0 | h0
  · rw [show genR ρ x b (fun _ => 0) (fun k => 1 + bit S k) (lft ρ x b).toNat = flR ρ x b S from rfl] at h0
    simp only [h0, iI_lit, iI_add, iI_sub, iI_mul, iI_neg, Option.bind_some, if_true, if_false, Int.reduceEq, Int.reduceLE, Int.reduceLT, Int.reduceAdd, Int.reduceSub, Int.reduceMul, Int.reduceNeg, Nat.reduceEqDiff]
  · rw [show genR ρ x b (fun _ => 0) (fun k => 1 + bit S k) (lft ρ x b).toNat = flR ρ x b S from rfl] at h0
    simp (disch := omega) only [h0, iI_lit, iI_add, iI_sub, iI_mul, iI_neg, Option.bind_some, if_true, if_false, Int.reduceEq, Int.reduceLE, Int.reduceLT, Int.reduceAdd, Int.reduceSub, Int.reduceMul, Int.reduceNeg, Nat.reduceEqDiff, iI_le, iI_lt, iI_eq, ld_i, sto_i, ac]
    split <;> rfl
theorem pow_le_100 {a : Int} (h1 : 0 ≤ a) (h2 : a ≤ 100) (n : Nat) : 0 ≤ a ^ n ∧ a ^ n ≤ 100 ^ n := by
  induction n with
  | zero => simp
  | succ n ih =>
    rw [Int.pow_succ, Int.pow_succ]
    exact ⟨Int.mul_nonneg ih.1 h1, Int.mul_le_mul ih.2 h2 h1 (by have := ih.1; omega)⟩
theorem pow100_4 {n : Nat} (h : n ≤ 4) : (100 : Int) ^ n ≤ 100000000 ∧ 0 < (100 : Int) ^ n := by
  match n, h with
  | 0, _ => decide
  | 1, _ => decide
  | 2, _ => decide
  | 3, _ => decide
  | 4, _ => decide
/-- few members in a small set -/
theorem memb_tab : ∀ n : Fin 5, ∀ S : Fin 16, S.val < 2 ^ n.val → membN S.val 8 ≤ n.val := by decide +kernel
theorem memb_le {n S : Int} (h1 : 0 ≤ n) (h2 : n ≤ 4) (h3 : 0 ≤ S) (h4 : S < pw n) : membN S 8 ≤ n := by
  obtain ⟨m, rfl⟩ : ∃ m : Nat, n = m := ⟨n.toNat, by omega⟩
  obtain ⟨k, rfl⟩ : ∃ k : Nat, S = k := ⟨S.toNat, by omega⟩
  rw [pw_nat] at h4
  have hk : k < 2 ^ m := by omega
  have : 2 ^ m ≤ 2 ^ 4 := Nat.pow_le_pow_right (by omega) (by omega)
  have := memb_tab ⟨m, by omega⟩ ⟨k, by omega⟩ hk
  simpa using this
theorem flW_b (hw : wfR ρ) {n S : Int} (h1 : 0 ≤ n) (h2 : n ≤ 4) (h3 : 0 ≤ S) (h4 : S < pw n) : 0 ≤ flW ρ n S ∧ flW ρ n S ≤ 100000000 := by
  have hf := hw.2.2.2.2.1
  have hm := memb_le h1 h2 h3 h4
  have hm0 := (membN_b S 8).1
  have p1 := pow_le_100 hf.1 hf.2 (membN S 8).toNat
  have p2 := pow_le_100 (a := 100 - rF ρ) (by omega) (by omega) (n - membN S 8).toNat
  unfold flW
  refine ⟨Int.mul_nonneg p1.1 p2.1, Int.le_trans (Int.mul_le_mul p1.2 p2.2 p2.1 (by have := pow100_4 (n := (membN S 8).toNat) (by omega); omega)) ?_⟩
  rw [← Int.pow_add]
  exact (pow100_4 (by omega)).1
theorem pw_4 {n : Int} (h2 : n ≤ 4) : pw n ≤ 16 := by
  have : (2 : Nat) ^ n.toNat ≤ 2 ^ 4 := Nat.pow_le_pow_right (by omega) (by omega)
  have e : pw n = ((2 ^ n.toNat : Nat) : Int) := by simp [pw]
  omega
theorem oddN_b (hw : wfR ρ) {b c : Int} (hl : 0 ≤ lft ρ x b ∧ lft ρ x b ≤ 4) (k : Nat) (hk : (k : Int) ≤ pw (lft ρ x b)) : 0 ≤ oddN ρ x b c k ∧ oddN ρ x b c k ≤ 100000000 * k := by
  induction k with
  | zero => exact ⟨Int.le_refl _, Int.le_refl _⟩
  | succ k ih =>
    have := ih (by omega)
    have := flW_b hw hl.1 hl.2 (S := k) (by omega) (by omega)
    simp only [oddN]
    split <;> omega
def oddV (ρ : Rv) (x : Int → Int) (b c part : Int) : Int :=
  let own := oddN ρ x b c (pw (lft ρ x b)).toNat
  let all := 100 ^ (lft ρ x b).toNat
  if part = 0 then own / Int.gcd all own else all / Int.gcd all own
theorem m_odds (hR : okR ρ s) (hw : wfR ρ) (ha : ar s 22 28 x) (hx : wfS ρ x) {b c part : Int} (h1 : -2147483648 ≤ b) (h2 : b < 2147483648) (h3 : -2147483648 ≤ c) (h4 : c < 2147483648) (h5 : -2147483648 ≤ part) (h6 : part < 2147483648) : ∃ s', fm_odds s (iI b) (iI c) (iI part) = some (iI (if (0 ≤ b ∧ b < rB ρ) ∧ lft ρ x b ≤ 4 ∧ (0 ≤ c ∧ c ≤ rC ρ - 1) ∧ 0 ≤ part ∧ part ≤ 1 then oddV ρ x b c part else -1), s') ∧ fr [] [8, 9, 23] s s' := by
  have hC := hw.1
  have hf := hw.2.2.2.2.1
  unfold fm_odds
  rw [m_isBoard hR hw h1 h2]
  by_cases h : 0 ≤ b ∧ b < rB ρ
  · obtain ⟨h1, h2⟩ := h
    have hl := lft_b hw hx h1 h2
    have hb := hw.2.2.1
    have e1 : fm_leftOf s (iI b) = some (iI (lft ρ x b)) := m_leftOf hR ha h1 (by omega)
    simp (disch := omega) only [if_pos (And.intro h1 h2), iI_lit, iI_add, iI_sub, iI_mul, iI_neg, Option.bind_some, if_true, if_false, Int.reduceEq, Int.reduceLE, Int.reduceLT, Int.reduceAdd, Int.reduceSub, Int.reduceMul, Int.reduceNeg, Nat.reduceEqDiff, iI_le, iI_lt, iI_eq, show ¬ iI 1 = iI 0 by decide, e1, hR.1, m_isIn]
    by_cases q1 : lft ρ x b ≤ 4
    · rw [if_neg (show ¬ 4 < lft ρ x b by omega)]
      by_cases q2 : 0 ≤ c ∧ c ≤ rC ρ - 1
      · by_cases q3 : 0 ≤ part ∧ part ≤ 1
        · have hall : (0 ≤ b ∧ b < rB ρ) ∧ lft ρ x b ≤ 4 ∧ (0 ≤ c ∧ c ≤ rC ρ - 1) ∧ 0 ≤ part ∧ part ≤ 1 := ⟨⟨h1, h2⟩, q1, q2, q3⟩
          simp only [if_pos q2, if_pos q3, if_pos hall, iI_lit, iI_add, iI_sub, iI_mul, iI_neg, Option.bind_some, if_true, if_false, Int.reduceEq, Int.reduceLE, Int.reduceLT, Int.reduceAdd, Int.reduceSub, Int.reduceMul, Int.reduceNeg, Nat.reduceEqDiff, show ¬ iI 1 = iI 0 by decide]
          have hp4 := pw_4 q1
          have hp0 := pw_pos (lft ρ x b)
          have : ∃ r, lp (fm_odds_b55 (iI b) (iI c) (iI part) (iI (lft ρ x b))) (iI 0, iI 0, s) = some r ∧ (r.1 = iI (oddN ρ x b c (pw (lft ρ x b)).toNat) ∧ fr [] [8, 9, 23] s r.2) := by
            refine lp_inv (fun i q => q.1 = iI (oddN ρ x b c i) ∧ q.2.1 = iI i ∧ fr [] [8, 9, 23] s q.2.2) (pw (lft ρ x b)).toNat ?_ ?_ ⟨rfl, rfl, fr.refl⟩
            · rintro i ⟨o, k, u⟩ hi ⟨g1, g2, g3⟩
              simp only at g1 g2 g3
              subst g1 g2
              have hRu := hR.fr g3 rfl rfl
              obtain ⟨u2, e2, f2⟩ := m_landsBy hRu hw (g3.ar ha rfl) hx (b := b) (c := c) (S := i) h1 h2 (by omega) (by omega) (by omega) (by omega)
              have e50 : u2.1 50 = iI (rF ρ) := (hRu.fr f2 rfl rfl).2.2.2.2.1
              have hm := membN_b i 8
              have hml := memb_le hl.1 q1 (S := i) (by omega) (by omega)
              left
              refine ⟨(iI (oddN ρ x b c (i + 1)), iI ((i : Int) + 1), u2), ?_, rfl, rfl, g3.trans f2⟩
              simp (disch := omega) only [fm_odds_b55, iI_lit, iI_add, iI_sub, iI_mul, iI_neg, Option.bind_some, if_true, if_false, Int.reduceEq, Int.reduceLE, Int.reduceLT, Int.reduceAdd, Int.reduceSub, Int.reduceMul, Int.reduceNeg, Nat.reduceEqDiff, iI_le, iI_lt, iI_eq, shl_i, e2]
              rw [if_neg (by omega)]
              have hfl : fland ρ x b c i = 0 ∨ fland ρ x b c i = 1 := by
                unfold fland
                repeat' split
                all_goals simp
              rcases hfl with h0 | h0
              · simp (disch := omega) only [h0, iI_lit, iI_add, iI_sub, iI_mul, iI_neg, Option.bind_some, if_true, if_false, Int.reduceEq, Int.reduceLE, Int.reduceLT, Int.reduceAdd, Int.reduceSub, Int.reduceMul, Int.reduceNeg, Nat.reduceEqDiff, iI_le, iI_lt, iI_eq, oddN]
                rw [Int.add_zero]
              · simp (disch := omega) only [h0, iI_lit, iI_add, iI_sub, iI_mul, iI_neg, Option.bind_some, if_true, if_false, Int.reduceEq, Int.reduceLE, Int.reduceLT, Int.reduceAdd, Int.reduceSub, Int.reduceMul, Int.reduceNeg, Nat.reduceEqDiff, iI_le, iI_lt, iI_eq, oddN, m_members, m_power, e50]
                rfl
            · rintro ⟨o, k, u⟩ ⟨g1, g2, g3⟩
              simp only at g1 g2 g3
              subst g1 g2
              refine ⟨(iI (oddN ρ x b c (pw (lft ρ x b)).toNat), u), ?_, rfl, g3⟩
              simp (disch := omega) only [fm_odds_b55, iI_lit, iI_add, iI_sub, iI_mul, iI_neg, Option.bind_some, if_true, if_false, Int.reduceEq, Int.reduceLE, Int.reduceLT, Int.reduceAdd, Int.reduceSub, Int.reduceMul, Int.reduceNeg, Nat.reduceEqDiff, iI_le, iI_lt, iI_eq, shl_i]
              rw [if_pos (by omega)]
          obtain ⟨⟨o, u⟩, e, g1, g2⟩ := this
          simp only at g1 g2
          subst g1
          have ho := oddN_b (c := c) (x := x) hw ⟨hl.1, q1⟩ (pw (lft ρ x b)).toNat (by omega)
          have hpw := pow100_4 (n := (lft ρ x b).toNat) (by omega)
          refine ⟨u, ?_, g2⟩
          rw [e]
          simp only [Option.bind_some]
          rw [m_power hl.1 (by omega)]
          simp only [Option.bind_some]
          rw [m_divisor (by omega) (by omega) (by omega) (by omega)]
          have hg1 : (0 : Int) < Int.gcd (100 ^ (lft ρ x b).toNat) (oddN ρ x b c (pw (lft ρ x b)).toNat) := by
            have := Int.gcd_pos_of_ne_zero_left (oddN ρ x b c (pw (lft ρ x b)).toNat) (show (100 : Int) ^ (lft ρ x b).toNat ≠ 0 by omega)
            omega
          have hg2 : (Int.gcd (100 ^ (lft ρ x b).toNat) (oddN ρ x b c (pw (lft ρ x b)).toNat) : Int) ≤ 100 ^ (lft ρ x b).toNat := Int.le_of_dvd (by omega) (Int.gcd_dvd_left ..)
          simp (disch := omega) only [Option.bind_some, iI_le, iI_lt, iI_eq, dv_i, oddV]
          split <;> rfl
        · refine ⟨s, ?_, fr.refl⟩
          simp only [if_pos q2, if_neg q3, if_neg (show ¬ ((0 ≤ b ∧ b < rB ρ) ∧ lft ρ x b ≤ 4 ∧ (0 ≤ c ∧ c ≤ rC ρ - 1) ∧ 0 ≤ part ∧ part ≤ 1) by omega), iI_lit, iI_add, iI_sub, iI_mul, iI_neg, Option.bind_some, if_true, if_false, Int.reduceEq, Int.reduceLE, Int.reduceLT, Int.reduceAdd, Int.reduceSub, Int.reduceMul, Int.reduceNeg, Nat.reduceEqDiff, show ¬ iI 1 = iI 0 by decide]
      · refine ⟨s, ?_, fr.refl⟩
        simp only [if_neg q2, if_neg (show ¬ ((0 ≤ b ∧ b < rB ρ) ∧ lft ρ x b ≤ 4 ∧ (0 ≤ c ∧ c ≤ rC ρ - 1) ∧ 0 ≤ part ∧ part ≤ 1) by omega), iI_lit, iI_add, iI_sub, iI_mul, iI_neg, Option.bind_some, if_true, if_false, Int.reduceEq, Int.reduceLE, Int.reduceLT, Int.reduceAdd, Int.reduceSub, Int.reduceMul, Int.reduceNeg, Nat.reduceEqDiff]
    · refine ⟨s, ?_, fr.refl⟩
      rw [if_pos (show 4 < lft ρ x b by omega), if_neg (show ¬ ((0 ≤ b ∧ b < rB ρ) ∧ lft ρ x b ≤ 4 ∧ (0 ≤ c ∧ c ≤ rC ρ - 1) ∧ 0 ≤ part ∧ part ≤ 1) by omega)]
  · refine ⟨s, ?_, fr.refl⟩
    rw [if_neg (show ¬ ((0 ≤ b ∧ b < rB ρ) ∧ lft ρ x b ≤ 4 ∧ (0 ≤ c ∧ c ≤ rC ρ - 1) ∧ 0 ≤ part ∧ part ≤ 1) by omega)]
    simp only [if_neg h, iI_lit, iI_add, iI_sub, iI_mul, iI_neg, Option.bind_some, if_true, if_false, Int.reduceEq, Int.reduceLE, Int.reduceLT, Int.reduceAdd, Int.reduceSub, Int.reduceMul, Int.reduceNeg, Nat.reduceEqDiff]
end B0

/-! LAYER 3: a new river, the model -/
set_option maxRecDepth 100000
/-- what was read, ahead of its being taken over -/
def RD (ρ : Rv) (dz : Int) (s : mS) : Prop := (s.1 46 = iI (rC ρ) ∧ s.1 47 = iI (rR ρ) ∧ s.1 48 = iI (rB ρ) ∧ s.1 49 = iI (rL ρ) ∧ s.1 50 = iI (rF ρ) ∧ s.1 21 = iI (rU ρ) ∧ s.1 45 = iI dz) ∧ (∀ k p, (rS ρ)[k]? = some p → s.2.2.1 3 k = iI p.1 ∧ s.2.2.1 4 k = p.2) ∧ (∀ z, 0 ≤ z → z < 56 → ∃ c, s.2.2.1 10 z.toNat = iI c ∧ (-1000 ≤ c ∧ c ≤ 1000) ∧ rCu ρ z = if 0 ≤ c then c else 0) ∧ (∀ z, 0 ≤ z → z < 56 → ∃ c, s.2.2.1 11 z.toNat = iI c ∧ (-1000 ≤ c ∧ c ≤ 1000) ∧ rIr ρ z = if 0 ≤ c then 1 else 0) ∧ ar s 12 (rB ρ) (rBW ρ) ∧ ar s 13 (rB ρ) (rBA ρ) ∧ ar s 14 (rB ρ) (rBB ρ) ∧ ar s 15 (rL ρ) (rLW ρ)
section K1
variable {ρ : Rv} {s : mS} {dz : Int}
theorem m_commit (h : RD ρ dz s) (hw : wfR ρ) (hlen : (rS ρ).length ≤ 320) : ∃ s', fm_river_j77 s (iI (rS ρ).length) = some (iI (rB ρ), s') ∧ okR ρ s' ∧ ar s' 22 28 (begM ρ dz) ∧ (s'.1 57 = iI 0 ∧ s'.1 58 = iI 0 ∧ s'.1 75 = iI 0 ∧ s'.1 61 = iI 0) ∧ ar s' 43 3 (fun _ => 0) ∧ fr [18, 57, 58, 75, 61] [5, 6, 16, 17, 22, 18, 19, 20, 21, 43] s s' := by
  obtain ⟨⟨h46, h47, h48, h49, h50, h21, h45⟩, hst, h10, h11, h12, h13, h14, h15⟩ := h
  have hB := hw.2.2.1
  have hl := hw.2.2.2.1
  have f0 : fr [18, 57, 58, 75, 61] [5, 6, 16, 17, 22, 18, 19, 20, 21, 43] s (mSi s 18 (iI (rS ρ).length)) := fr.refl.si rfl
  have l1 : ∃ q, lp fm_river_b82 (iI 0, mSi s 18 (iI (rS ρ).length)) = some q ∧ (fr [] [5, 6] (mSi s 18 (iI (rS ρ).length)) q ∧ ∀ k : Nat, k < (rS ρ).length → q.2.2.1 5 k = s.2.2.1 3 k ∧ q.2.2.1 6 k = s.2.2.1 4 k) := by
    refine lp_inv (fun i q => q.1 = iI i ∧ fr [] [5, 6] (mSi s 18 (iI (rS ρ).length)) q.2 ∧ ∀ k : Nat, k < i → q.2.2.2.1 5 k = s.2.2.1 3 k ∧ q.2.2.2.1 6 k = s.2.2.1 4 k) (rS ρ).length ?_ ?_ ⟨rfl, fr.refl, fun j hj => by omega⟩
    · rintro i ⟨j, u⟩ hi ⟨g1, g2, g3⟩
      simp only at g1 g2 g3
      subst g1
      have e18 : u.1 18 = iI (rS ρ).length := by rw [g2.s 18 rfl]; rfl
      have k3 : u.2.2.1 3 (i : Int).toNat = s.2.2.1 3 i := by rw [Int.toNat_natCast, g2.a 3 rfl]; rfl
      have k4 : (aw u 5 (i : Int).toNat (s.2.2.1 3 i)).2.2.1 4 (i : Int).toNat = s.2.2.1 4 i := by rw [aw_get, if_neg (by omega), Int.toNat_natCast, g2.a 4 rfl]; rfl
      left
      refine ⟨(iI ((i : Int) + 1), aw (aw u 5 (i : Int).toNat (s.2.2.1 3 i)) 6 (i : Int).toNat (s.2.2.1 4 i)), ?_, rfl, (g2.aw rfl).aw rfl, fun k hk => ?_⟩
      · simp (disch := omega) only [fm_river_b82, e18, iI_lit, iI_add, iI_sub, iI_mul, iI_neg, obs, if_true, if_false, Int.reduceEq, Int.reduceLE, Int.reduceLT, Int.reduceAdd, Int.reduceSub, Int.reduceMul, Int.reduceNeg, Nat.reduceEqDiff, iI_le, iI_lt, iI_eq, sto_w, ld_i, k3, k4]
        rw [if_neg (by omega)]
      · rw [aw_get, aw_get, aw_get, aw_get, Int.toNat_natCast]
        by_cases hz : k = i
        · subst hz
          rw [if_neg (by omega), if_pos ⟨rfl, rfl⟩, if_pos ⟨rfl, rfl⟩]
          exact ⟨rfl, rfl⟩
        · rw [if_neg (by omega), if_neg (by omega), if_neg (by omega), if_neg (by omega)]
          exact g3 k (by omega)
    · rintro ⟨j, u⟩ ⟨g1, g2, g3⟩
      simp only at g1 g2 g3
      subst g1
      have e18 : u.1 18 = iI (rS ρ).length := by rw [g2.s 18 rfl]; rfl
      refine ⟨u, ?_, g2, g3⟩
      simp (disch := omega) only [fm_river_b82, e18, iI_le, iI_lt, iI_eq]
      rw [if_pos (by omega)]
  obtain ⟨s1, e1, f1, a1⟩ := l1
  have f01 : fr [18, 57, 58, 75, 61] [5, 6, 16, 17, 22, 18, 19, 20, 21, 43] s s1 := f0.trans (f1.mono rfl rfl)
  have l2 : ∃ q, lp fm_river_b122 (iI 0, s1) = some q ∧ (fr [] [16, 17] s1 q ∧ ar q 16 56 (rCu ρ) ∧ ar q 17 56 (rIr ρ)) := by
    refine lp_inv (fun i q => q.1 = iI i ∧ fr [] [16, 17] s1 q.2 ∧ ar q.2 16 i (rCu ρ) ∧ ar q.2 17 i (rIr ρ)) 56 ?_ ?_ ⟨rfl, fr.refl, fun z z1 z2 => by omega, fun z z1 z2 => by omega⟩
    · rintro i ⟨j, u⟩ hi ⟨g1, g2, g3, g4⟩
      simp only at g1 g2 g3 g4
      subst g1
      obtain ⟨c, c1, c2, c3⟩ := h10 i (by omega) (by omega)
      obtain ⟨d, d1, d2, d3⟩ := h11 i (by omega) (by omega)
      have fs : fr [18, 57, 58, 75, 61] [5, 6, 16, 17, 22, 18, 19, 20, 21, 43] s u := f01.trans (g2.mono rfl rfl)
      have k10 : u.2.2.1 10 (i : Int).toNat = iI c := by rw [fs.a 10 rfl]; exact c1
      have k11 : (aw u 16 (i : Int).toNat (iI (rCu ρ i))).2.2.1 11 (i : Int).toNat = iI d := by rw [aw_get, if_neg (by omega), fs.a 11 rfl]; exact d1
      left
      refine ⟨(iI ((i : Int) + 1), aw (aw u 16 (i : Int).toNat (iI (rCu ρ i))) 17 (i : Int).toNat (iI (rIr ρ i))), ?_, rfl, (g2.aw rfl).aw rfl, fun z z1 z2 => ?_, fun z z1 z2 => ?_⟩
      · have jj : fm_river_j152 u (iI i) (iI i) (iI (rCu ρ i)) = some (.inl (iI ((i : Int) + 1), aw (aw u 16 (i : Int).toNat (iI (rCu ρ i))) 17 (i : Int).toNat (iI (rIr ρ i)))) := by
          simp (disch := omega) only [fm_river_j152, iI_lit, iI_add, iI_sub, iI_mul, iI_neg, obs, if_true, if_false, Int.reduceEq, Int.reduceLE, Int.reduceLT, Int.reduceAdd, Int.reduceSub, Int.reduceMul, Int.reduceNeg, Nat.reduceEqDiff, iI_le, iI_lt, iI_eq, sto_w, ld_i, k11, d3]
          by_cases q : 0 ≤ d
          · simp only [if_pos q]
          · simp only [if_neg q]
        simp (disch := omega) only [fm_river_b122, iI_lit, iI_le, iI_lt, iI_eq, ld_i, k10, obs]
        rw [if_neg (by omega)]
        by_cases q : 0 ≤ c
        · rw [if_pos q] at c3 ⊢
          rw [← c3]
          exact jj
        · rw [if_neg q] at c3 ⊢
          rw [← c3]
          exact jj
      · rw [aw_get, if_neg (by omega), aw_get]
        by_cases hz : z = i
        · rw [if_pos ⟨rfl, by rw [hz]⟩, hz]
        · rw [if_neg (by omega)]
          exact g3 z z1 (by omega)
      · rw [aw_get]
        by_cases hz : z = i
        · rw [if_pos ⟨rfl, by rw [hz]⟩, hz]
        · rw [if_neg (by omega), aw_get, if_neg (by omega)]
          exact g4 z z1 (by omega)
    · rintro ⟨j, u⟩ ⟨g1, g2, g3, g4⟩
      simp only at g1 g2 g3 g4
      subst g1
      refine ⟨u, ?_, g2, g3, g4⟩
      simp (disch := omega) only [fm_river_b122, iI_lit, iI_add, iI_sub, iI_mul, iI_neg, obs, if_true, if_false, Int.reduceEq, Int.reduceLE, Int.reduceLT, Int.reduceAdd, Int.reduceSub, Int.reduceMul, Int.reduceNeg, Nat.reduceEqDiff, iI_le, iI_lt, iI_eq]
      rw [if_pos (by omega)]
  obtain ⟨s2, e2, f2, a16, a17⟩ := l2
  have f02 : fr [18, 57, 58, 75, 61] [5, 6, 16, 17, 22, 18, 19, 20, 21, 43] s s2 := f01.trans (f2.mono rfl rfl)
  have l3 : ∃ q, lp fm_river_b181 (iI 0, s2) = some q ∧ (fr [] [22] s2 q ∧ ar q 22 28 (fun _ => 0)) := by
    refine lp_inv (fun i q => q.1 = iI i ∧ fr [] [22] s2 q.2 ∧ ar q.2 22 i (fun _ => 0)) 28 ?_ ?_ ⟨rfl, fr.refl, fun z z1 z2 => by omega⟩
    · rintro i ⟨j, u⟩ hi ⟨g1, g2, g3⟩
      simp only at g1 g2 g3
      subst g1
      left
      refine ⟨(iI ((i : Int) + 1), aw u 22 (i : Int).toNat (iI 0)), ?_, rfl, g2.aw rfl, fun z z1 z2 => ?_⟩
      · simp (disch := omega) only [fm_river_b181, iI_lit, iI_add, iI_sub, iI_mul, iI_neg, obs, if_true, if_false, Int.reduceEq, Int.reduceLE, Int.reduceLT, Int.reduceAdd, Int.reduceSub, Int.reduceMul, Int.reduceNeg, Nat.reduceEqDiff, iI_le, iI_lt, iI_eq, sto_w]
        rw [if_neg (by omega)]
      · rw [aw_get]
        by_cases hz : z = i
        · rw [if_pos ⟨rfl, by rw [hz]⟩]
        · rw [if_neg (by omega)]
          exact g3 z z1 (by omega)
    · rintro ⟨j, u⟩ ⟨g1, g2, g3⟩
      simp only at g1 g2 g3
      subst g1
      refine ⟨u, ?_, g2, g3⟩
      simp (disch := omega) only [fm_river_b181, iI_lit, iI_add, iI_sub, iI_mul, iI_neg, obs, if_true, if_false, Int.reduceEq, Int.reduceLE, Int.reduceLT, Int.reduceAdd, Int.reduceSub, Int.reduceMul, Int.reduceNeg, Nat.reduceEqDiff, iI_le, iI_lt, iI_eq]
      rw [if_pos (by omega)]
  obtain ⟨s3, e3, f3, a22⟩ := l3
  have f03 : fr [18, 57, 58, 75, 61] [5, 6, 16, 17, 22, 18, 19, 20, 21, 43] s s3 := f02.trans (f3.mono rfl rfl)
  have l4 : ∃ q, lp fm_river_b202 (iI 0, s3) = some q ∧ (fr [] [18, 19, 20, 22] s3 q ∧ ar q 18 (rB ρ) (rBW ρ) ∧ ar q 19 (rB ρ) (rBA ρ) ∧ ar q 20 (rB ρ) (rBB ρ) ∧ ar q 22 28 (fun z => if z < rB ρ then rBA ρ z else 0)) := by
    refine lp_inv (fun i q => q.1 = iI i ∧ fr [] [18, 19, 20, 22] s3 q.2 ∧ ar q.2 18 i (rBW ρ) ∧ ar q.2 19 i (rBA ρ) ∧ ar q.2 20 i (rBB ρ) ∧ ar q.2 22 28 (fun z => if z < i then rBA ρ z else 0)) (rB ρ).toNat ?_ ?_ ⟨rfl, fr.refl, fun z z1 z2 => by omega, fun z z1 z2 => by omega, fun z z1 z2 => by omega, fun z z1 z2 => ?_⟩
    · rintro i ⟨j, u⟩ hi ⟨g1, g2, g3, g4, g5, g6⟩
      simp only at g1 g2 g3 g4 g5 g6
      subst g1
      have fs : fr [18, 57, 58, 75, 61] [5, 6, 16, 17, 22, 18, 19, 20, 21, 43] s u := f03.trans (g2.mono rfl rfl)
      have e48 : u.1 48 = iI (rB ρ) := by rw [fs.s 48 rfl]; exact h48
      have k12 : u.2.2.1 12 (i : Int).toNat = iI (rBW ρ i) := by rw [fs.a 12 rfl]; exact h12 i (by omega) (by omega)
      have k13 : u.2.2.1 13 (i : Int).toNat = iI (rBA ρ i) := by rw [fs.a 13 rfl]; exact h13 i (by omega) (by omega)
      have k14 : u.2.2.1 14 (i : Int).toNat = iI (rBB ρ i) := by rw [fs.a 14 rfl]; exact h14 i (by omega) (by omega)
      left
      refine ⟨(iI ((i : Int) + 1), aw (aw (aw (aw u 18 (i : Int).toNat (iI (rBW ρ i))) 19 (i : Int).toNat (iI (rBA ρ i))) 20 (i : Int).toNat (iI (rBB ρ i))) 22 (i : Int).toNat (iI (rBA ρ i))), ?_, rfl, (((g2.aw rfl).aw rfl).aw rfl).aw rfl, fun z z1 z2 => ?_, fun z z1 z2 => ?_, fun z z1 z2 => ?_, fun z z1 z2 => ?_⟩
      · simp (disch := omega) only [fm_river_b202, e48, iI_lit, iI_add, iI_sub, iI_mul, iI_neg, obs, if_true, if_false, Int.reduceEq, Int.reduceLE, Int.reduceLT, Int.reduceAdd, Int.reduceSub, Int.reduceMul, Int.reduceNeg, Nat.reduceEqDiff, iI_le, iI_lt, iI_eq, sto_w, ld_i, k12, k13, k14, aw_get, Nat.reduceEqDiff, false_and, true_and]
        rw [if_neg (by omega)]
      · simp only [aw_get, Nat.reduceEqDiff, false_and, true_and, if_false]
        by_cases hz : z = i
        · rw [if_pos (by rw [hz]), hz]
        · rw [if_neg (by omega)]
          exact g3 z z1 (by omega)
      · simp only [aw_get, Nat.reduceEqDiff, false_and, true_and, if_false]
        by_cases hz : z = i
        · rw [if_pos (by rw [hz]), hz]
        · rw [if_neg (by omega)]
          exact g4 z z1 (by omega)
      · simp only [aw_get, Nat.reduceEqDiff, false_and, true_and, if_false]
        by_cases hz : z = i
        · rw [if_pos (by rw [hz]), hz]
        · rw [if_neg (by omega)]
          exact g5 z z1 (by omega)
      · simp only [aw_get, Nat.reduceEqDiff, false_and, true_and, if_false]
        by_cases hz : z = i
        · rw [if_pos (by rw [hz]), hz, if_pos (by omega)]
        · rw [if_neg (by omega), g6 z z1 z2]
          simp only
          by_cases q : z < (i : Int)
          · rw [if_pos q, if_pos (by omega)]
          · rw [if_neg q, if_neg (by omega)]
    · rintro ⟨j, u⟩ ⟨g1, g2, g3, g4, g5, g6⟩
      simp only at g1 g2 g3 g4 g5 g6
      subst g1
      have fs : fr [18, 57, 58, 75, 61] [5, 6, 16, 17, 22, 18, 19, 20, 21, 43] s u := f03.trans (g2.mono rfl rfl)
      have e48 : u.1 48 = iI (rB ρ) := by rw [fs.s 48 rfl]; exact h48
      rw [show (((rB ρ).toNat : Nat) : Int) = rB ρ by omega] at g3 g4 g5 g6
      refine ⟨u, ?_, g2, g3, g4, g5, g6⟩
      simp (disch := omega) only [fm_river_b202, e48, iI_le, iI_lt, iI_eq]
      rw [if_pos (by omega)]
    · rw [a22 z z1 z2]
      show iI 0 = iI (if z < ((0 : Nat) : Int) then rBA ρ z else 0)
      rw [if_neg (by omega)]
  obtain ⟨s4, e4, f4, a18, a19, a20, b22⟩ := l4
  have f04 : fr [18, 57, 58, 75, 61] [5, 6, 16, 17, 22, 18, 19, 20, 21, 43] s s4 := f03.trans (f4.mono rfl rfl)
  have l5 : ∃ q, lp fm_river_b266 (iI 0, s4) = some q ∧ (fr [] [21, 22] s4 q ∧ ar q 21 (rL ρ) (rLW ρ) ∧ ar q 22 28 (fun z => if z < rB ρ then rBA ρ z else if 20 ≤ z ∧ z < 20 + rL ρ then -1 else 0)) := by
    refine lp_inv (fun i q => q.1 = iI i ∧ fr [] [21, 22] s4 q.2 ∧ ar q.2 21 i (rLW ρ) ∧ ar q.2 22 28 (fun z => if z < rB ρ then rBA ρ z else if 20 ≤ z ∧ z < 20 + i then -1 else 0)) (rL ρ).toNat ?_ ?_ ⟨rfl, fr.refl, fun z z1 z2 => by omega, fun z z1 z2 => ?_⟩
    · rintro i ⟨j, u⟩ hi ⟨g1, g2, g3, g4⟩
      simp only at g1 g2 g3 g4
      subst g1
      have fs : fr [18, 57, 58, 75, 61] [5, 6, 16, 17, 22, 18, 19, 20, 21, 43] s u := f04.trans (g2.mono rfl rfl)
      have e49 : u.1 49 = iI (rL ρ) := by rw [fs.s 49 rfl]; exact h49
      have k15 : u.2.2.1 15 (i : Int).toNat = iI (rLW ρ i) := by rw [fs.a 15 rfl]; exact h15 i (by omega) (by omega)
      left
      refine ⟨(iI ((i : Int) + 1), aw (aw u 21 (i : Int).toNat (iI (rLW ρ i))) 22 (20 + (i : Int)).toNat (iI (-1))), ?_, rfl, (g2.aw rfl).aw rfl, fun z z1 z2 => ?_, fun z z1 z2 => ?_⟩
      · simp (disch := omega) only [fm_river_b266, e49, iI_lit, iI_add, iI_sub, iI_mul, iI_neg, obs, if_true, if_false, Int.reduceEq, Int.reduceLE, Int.reduceLT, Int.reduceAdd, Int.reduceSub, Int.reduceMul, Int.reduceNeg, Nat.reduceEqDiff, iI_le, iI_lt, iI_eq, sto_w, ld_i, k15]
        rw [if_neg (by omega)]
      · simp only [aw_get, Nat.reduceEqDiff, false_and, true_and, if_false]
        by_cases hz : z = i
        · rw [if_pos (by rw [hz]), hz]
        · rw [if_neg (by omega)]
          exact g3 z z1 (by omega)
      · simp only [aw_get, Nat.reduceEqDiff, false_and, true_and, if_false]
        by_cases hz : z = 20 + i
        · rw [if_pos (by rw [hz]), if_neg (by omega), if_pos (by omega)]
        · rw [if_neg (by omega), g4 z z1 z2]
          simp only
          by_cases q : z < rB ρ
          · rw [if_pos q, if_pos q]
          · rw [if_neg q, if_neg q]
            by_cases q2 : 20 ≤ z ∧ z < 20 + (i : Int)
            · rw [if_pos q2, if_pos (by omega)]
            · rw [if_neg q2, if_neg (by omega)]
    · rintro ⟨j, u⟩ ⟨g1, g2, g3, g4⟩
      simp only at g1 g2 g3 g4
      subst g1
      have fs : fr [18, 57, 58, 75, 61] [5, 6, 16, 17, 22, 18, 19, 20, 21, 43] s u := f04.trans (g2.mono rfl rfl)
      have e49 : u.1 49 = iI (rL ρ) := by rw [fs.s 49 rfl]; exact h49
      rw [show (((rL ρ).toNat : Nat) : Int) = rL ρ by omega] at g3 g4
      refine ⟨u, ?_, g2, g3, g4⟩
      simp (disch := omega) only [fm_river_b266, e49, iI_le, iI_lt, iI_eq]
      rw [if_pos (by omega)]
    · rw [b22 z z1 z2]
      show iI (if z < rB ρ then rBA ρ z else 0) = iI (if z < rB ρ then rBA ρ z else if 20 ≤ z ∧ z < 20 + ((0 : Nat) : Int) then -1 else 0)
      by_cases q : z < rB ρ
      · rw [if_pos q, if_pos q]
      · rw [if_neg q, if_neg q, if_neg (by omega)]
  obtain ⟨s5, e5, f5, a21, c22⟩ := l5
  have f05 : fr [18, 57, 58, 75, 61] [5, 6, 16, 17, 22, 18, 19, 20, 21, 43] s s5 := f04.trans (f5.mono rfl rfl)
  generalize hs6 : mSi (mSi (mSi (mSi (aw s5 22 27 (iI dz)) 57 (iI 0)) 58 (iI 0)) 75 (iI 0)) 61 (iI 0) = s6
  have f06 : fr [18, 57, 58, 75, 61] [5, 6, 16, 17, 22, 18, 19, 20, 21, 43] s s6 := by
    rw [← hs6]
    exact ((((f05.aw rfl).si rfl).si rfl).si rfl).si rfl
  have n6 : s6.1 57 = iI 0 ∧ s6.1 58 = iI 0 ∧ s6.1 75 = iI 0 ∧ s6.1 61 = iI 0 := by rw [← hs6]; exact ⟨rfl, rfl, rfl, rfl⟩
  have g6 : fr [57, 58, 75, 61] [22] s5 s6 := by rw [← hs6]; exact ((((fr.refl.aw rfl).si rfl).si rfl).si rfl).si rfl
  have d22 : ar s6 22 28 (begM ρ dz) := by
    intro z z1 z2
    have : s6.2.2.1 22 z.toNat = (aw s5 22 27 (iI dz)).2.2.1 22 z.toNat := by rw [← hs6]; rfl
    rw [this, aw_get]
    unfold begM
    by_cases q : z = 27
    · rw [if_pos ⟨rfl, by omega⟩, if_neg (by omega), if_neg (by omega), if_neg (by omega), if_pos q]
    · rw [if_neg (by omega), c22 z z1 z2]
      simp only
      by_cases q1 : z < 4
      · rw [if_pos q1]
        by_cases q2 : z < rB ρ
        · rw [if_pos q2, if_pos q2]
        · rw [if_neg q2, if_neg q2, if_neg (by omega)]
      · rw [if_neg q1, if_neg (by omega)]
        by_cases q2 : z < 20
        · rw [if_pos q2, if_neg (by omega)]
        · rw [if_neg q2]
          by_cases q3 : z < 20 + rL ρ
          · rw [if_pos q3, if_pos (by omega)]
          · rw [if_neg q3, if_neg (by omega), if_neg q]
  have l6 : ∃ q, lp fm_river_b335 (iI 0, s6) = some q ∧ (fr [] [43] s6 q ∧ ar q 43 3 (fun _ => 0)) := by
    refine lp_inv (fun i q => q.1 = iI i ∧ fr [] [43] s6 q.2 ∧ ar q.2 43 i (fun _ => 0)) 3 ?_ ?_ ⟨rfl, fr.refl, fun z z1 z2 => by omega⟩
    · rintro i ⟨j, u⟩ hi ⟨g1, g2, g3⟩
      simp only at g1 g2 g3
      subst g1
      left
      have e43 := stb_1 (j := 43) (n := 3) (s := u) (z := i) (v := 0) (by omega) (by omega) (by omega) (Or.inl rfl)
      refine ⟨(iI ((i : Int) + 1), aw u 43 (i : Int).toNat (iI 0)), ?_, rfl, g2.aw rfl, fun z z1 z2 => ?_⟩
      · simp (disch := omega) only [fm_river_b335, iI_lit, iI_add, iI_sub, iI_mul, iI_neg, obs, if_true, if_false, Int.reduceEq, Int.reduceLE, Int.reduceLT, Int.reduceAdd, Int.reduceSub, Int.reduceMul, Int.reduceNeg, Nat.reduceEqDiff, iI_le, iI_lt, iI_eq, e43]
        rw [if_neg (by omega)]
      · rw [aw_get]
        by_cases hz : z = i
        · rw [if_pos ⟨rfl, by rw [hz]⟩]
        · rw [if_neg (by omega)]
          exact g3 z z1 (by omega)
    · rintro ⟨j, u⟩ ⟨g1, g2, g3⟩
      simp only at g1 g2 g3
      subst g1
      refine ⟨u, ?_, g2, g3⟩
      simp (disch := omega) only [fm_river_b335, iI_lit, iI_add, iI_sub, iI_mul, iI_neg, obs, if_true, if_false, Int.reduceEq, Int.reduceLE, Int.reduceLT, Int.reduceAdd, Int.reduceSub, Int.reduceMul, Int.reduceNeg, Nat.reduceEqDiff, iI_le, iI_lt, iI_eq]
      rw [if_pos (by omega)]
  obtain ⟨s7, e7, f7, a43⟩ := l6
  have f07 : fr [18, 57, 58, 75, 61] [5, 6, 16, 17, 22, 18, 19, 20, 21, 43] s s7 := f06.trans (f7.mono rfl rfl)
  have g57 : fr [57, 58, 75, 61] [22, 43] s5 s7 := (g6.mono rfl rfl).trans (f7.mono rfl rfl)
  have g47 : fr [57, 58, 75, 61] [21, 22, 43] s4 s7 := (f5.mono rfl rfl).trans (g57.mono rfl rfl)
  have g27 : fr [57, 58, 75, 61] [18, 19, 20, 21, 22, 43] s2 s7 := ((f3.mono rfl rfl).trans (f4.mono rfl rfl)).trans (g47.mono rfl rfl)
  have g17 : fr [57, 58, 75, 61] [16, 17, 18, 19, 20, 21, 22, 43] s1 s7 := (f2.mono rfl rfl).trans (g27.mono rfl rfl)
  refine ⟨s7, ?_, ⟨?_, ?_, ?_, ?_, ?_, ?_, g27.ar a16 rfl, g27.ar a17 rfl, g47.ar a18 rfl, g47.ar a19 rfl, g47.ar a20 rfl, g57.ar a21 rfl, ?_, ?_⟩, f7.ar d22 rfl, ⟨?_, ?_, ?_, ?_⟩, a43, f07⟩
  · have e48 : s7.1 48 = iI (rB ρ) := by rw [f07.s 48 rfl]; exact h48
    have e45 : s5.1 45 = iI dz := by rw [f05.s 45 rfl]; exact h45
    unfold fm_river_j77
    simp only [pI, obs]
    rw [show (0 : Int32) = iI 0 from rfl, e1, obs, e2, obs, e3, obs, e4, obs, e5, obs, e45, show (27 : Int32) = iI 27 from rfl, sto_w (by omega) (by omega) (by omega), obs, show (27 : Int).toNat = 27 from rfl, hs6, e7, obs, e48]
  · rw [f07.s 46 rfl]; exact h46
  · rw [f07.s 47 rfl]; exact h47
  · rw [f07.s 48 rfl]; exact h48
  · rw [f07.s 49 rfl]; exact h49
  · rw [f07.s 50 rfl]; exact h50
  · rw [f07.s 21 rfl]; exact h21
  · rw [g17.s 18 rfl, f1.s 18 rfl]; rfl
  · intro k p hp
    have hk : k < (rS ρ).length := by
      rcases Nat.lt_or_ge k (rS ρ).length with z | z
      · exact z
      · rw [List.getElem?_eq_none z] at hp; cases hp
    rw [g17.a 5 rfl, g17.a 6 rfl, (a1 k hk).1, (a1 k hk).2]
    exact hst k p hp
  · rw [f7.s 57 rfl]; exact n6.1
  · rw [f7.s 58 rfl]; exact n6.2.1
  · rw [f7.s 75 rfl]; exact n6.2.2.1
  · rw [f7.s 61 rfl]; exact n6.2.2.2
end K1

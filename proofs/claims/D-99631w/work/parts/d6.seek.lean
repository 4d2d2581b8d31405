/-! LAYER 3, the component: wishes (coolest, straight), singe -/
set_option maxRecDepth 100000
section W2
variable {y : yS} {w k : Nat} {v : Int32} {q : Nat}
theorem gI2_ok (ht : yt y w = some (.inr 4) ∨ yt y w = some (.inr 5)) : gI2 4 5 k y w = some (yf y w k) := by
  unfold gI2 gI
  rcases ht with e | e <;> simp [e]
theorem wI2_ok (ht : yt y w = some (.inr 4) ∨ yt y w = some (.inr 5)) : wI2 4 5 k y w v = some (sF y w k v) := by
  unfold wI2 wI
  rcases ht with e | e <;> simp [e]
theorem gR2_ok (ht : yt y w = some (.inr 4) ∨ yt y w = some (.inr 5)) (hr : yr y w k = some q) : gR2 4 5 k y w = some q := by
  unfold gR2 gR
  rcases ht with e | e <;> simp [e, hr]
theorem ck2_ok (ht : yt y w = some (.inr 4) ∨ yt y w = some (.inr 5)) : ck2 4 5 y w = some () := by
  unfold ck2 ck
  rcases ht with e | e <;> simp [e]
end W2
section D6
variable {G : ai_G} {O : Nat → Nat} {y : yS} {ρ : Rv} {x : Int → Int} {X r : Nat} {bd ld : Nat → Nat}
/-- the best row by a cost -/
theorem c_seek {w wl : Nat} {C : Int → Int} {b : Int} (h : XC G O y ρ x X r bd ld) (hw : wfR ρ) (hx : wfS ρ x) (h1 : 0 ≤ b) (h2 : b < rB ρ) (ht : yt y w = some (.inr 4) ∨ yt y w = some (.inr 5)) (hr2 : yr y w 2 = some X) (hwn : w < yn y) (hwO : O w = wl) (hl : wl = 12 ∨ wl = 13) (hwX : ¬ w = X)
    (hC : ∀ v : Int, 0 ≤ v → v < p3 (lft ρ x b) → C v < 1000000 ∧ ((rowE ρ x b v).1 = 0 → C v = -1) ∧ ((rowE ρ x b v).1 = 1 → -1 ≤ C v ∧ ∀ u, yF O [2, 24, 104, 100 + wl, 213, 10] 0 0 y u → yf u w 3 = yf y w 3 → vlY u (rL ρ) (X + 15) (rowE ρ x b v).2 → fy_costOf G u w (X + 15) (iI b) (iI (turnN v (lft ρ x b) (lft ρ x b).toNat)) = some (iI (C v)))) (hCk : ∀ k : Nat, C k < 1000000) :
    ∃ y', fy_Wish_seek G y w (iI b) = some (iI (if (bestN C (p3 (lft ρ x b)).toNat).2 < 0 then 0 else 1), y') ∧ yF O [2, 24, 104, 100 + wl, 213, 10] 0 0 y y' ∧ yf y' w 0 = iI (bestN C (p3 (lft ρ x b)).toNat).2 ∧ (0 ≤ (bestN C (p3 (lft ρ x b)).toNat).2 → yf y' w 1 = iI (bestN C (p3 (lft ρ x b)).toNat).1) ∧ yf y' X 13 = iI (if (bestN C (p3 (lft ρ x b)).toNat).2 < 0 then 0 else lft ρ x b) ∧ (0 ≤ (bestN C (p3 (lft ρ x b)).toNat).2 → ∀ z, 0 ≤ z → z < lft ρ x b → ya y' (X + 26) z.toNat = iI (dig (bestN C (p3 (lft ρ x b)).toNat).2 (lft ρ x b) z)) := by
  have h3 := lft_b hw hx h1 h2
  have hp := p3_le h3.2
  have hp0 := p3_pos (lft ρ x b)
  have hb4 : b < 4 := by have := hw.2.2.1; omega
  have ep := c_p3 h3.1 h3.2
  have hl5 : ¬ wl = 5 := by rcases hl with rfl | rfl <;> decide
  have lbw : ∀ k, lbF O w k = 100 + wl := fun k => by unfold lbF; rw [hwO, if_neg hl5]
  have hm : [2, 24, 104, 100 + wl, 213, 10].contains (100 + wl) = true := by simp
  have hLC : [2, 24, 104, 100 + wl, 213, 10].all (fun k => !([5, 4, 12, 13, 22, 1, 101, 3, 103, 23].contains k)) = true := by rcases hl with rfl | rfl <;> rfl
  have hs3 : [2, 24, 104].all (fun k => [2, 24, 104, 100 + wl, 213, 10].contains k) = true := by rcases hl with rfl | rfl <;> rfl
  have hnl : [2, 24, 104].contains (100 + wl) = false := by rcases hl with rfl | rfl <;> rfl
  have hLw : [2, 24, 104, 100 + wl, 213, 10].contains wl = false := by rcases hl with rfl | rfl <;> rfl
  have hT : ∀ u, yF O [2, 24, 104, 100 + wl, 213, 10] 0 0 y u → (yt u w = some (.inr 4) ∨ yt u w = some (.inr 5)) ∧ yr u w 2 = some X := fun u f => ⟨by rw [f.tag hwn]; exact ht, by rw [f.ref hwn (by rw [hwO]; exact hLw)]; exact hr2⟩
  have f0 : yF O [2, 24, 104, 100 + wl, 213, 10] 0 0 y (sF y w 0 (iI (-1))) := yF.refl.sf (by rw [lbw]; exact hm)
  -- the rows
  have hA : ∃ q, lp (fy_Wish_seek_b31 G w (iI b) (iI (lft ρ x b))) (iI 0, sF y w 0 (iI (-1))) = some q ∧ (yF O [2, 24, 104, 100 + wl, 213, 10] 0 0 y q ∧ yf q w 0 = iI (bestN C (p3 (lft ρ x b)).toNat).2 ∧ (0 ≤ (bestN C (p3 (lft ρ x b)).toNat).2 → yf q w 1 = iI (bestN C (p3 (lft ρ x b)).toNat).1) ∧ yf q w 3 = yf y w 3) := by
    refine lp_inv (fun i q => q.1 = iI i ∧ yF O [2, 24, 104, 100 + wl, 213, 10] 0 0 y q.2 ∧ yf q.2 w 0 = iI (bestN C i).2 ∧ (0 ≤ (bestN C i).2 → yf q.2 w 1 = iI (bestN C i).1) ∧ yf q.2 w 3 = yf y w 3) (p3 (lft ρ x b)).toNat ?_ ?_ ⟨rfl, f0, by rw [sF_get, if_pos ⟨rfl, rfl⟩]; rfl, fun z => absurd z (by show ¬ (0 : Int) ≤ -1; omega), by rw [sF_get, if_neg (by omega)]⟩
    · rintro i ⟨c, u⟩ hi ⟨g1, g2, g3, g4, g5⟩
      simp only at g1 g2 g3 g4 g5
      subst g1
      have hu := h.fr g2 hLC
      obtain ⟨u2, e1, f1, v1⟩ := c_goRow hu hw hx (b := b) (v := i) h1 h2 (by omega) (by omega)
      have f2 := g2.t0 (f1.m0 hs3)
      have hu2 := hu.fr f1 rfl
      obtain ⟨tu, ru⟩ := hT u g2
      obtain ⟨tu2, ru2⟩ := hT u2 f2
      have ef : ∀ k, yf u2 w k = yf u w k := fun k => f1.int (by have := g2.nx; omega) (by rw [lbw]; exact hnl)
      obtain ⟨k1, k2, k3⟩ := hC i (by omega) (by omega)
      have hok := bestN_ok hCk i
      have ht9 := turnN_b i (lft ρ x b) (lft ρ x b).toNat
      left
      rcases (rowE_wf (v := i) hw hx h1 h2).2 with h0 | h0
      · have kc := k2 h0
        have eb : bestN C (i + 1) = bestN C i := by
          show (if 0 ≤ C i ∧ C i < (bestN C i).1 then _ else _) = _
          rw [if_neg (by omega)]
        refine ⟨(iI ((i : Int) + 1), u2), ?_, rfl, f2, by rw [ef, eb]; exact g3, by rw [ef, eb]; exact g4, by rw [ef]; exact g5⟩
        simp (disch := omega) only [fy_Wish_seek_b31, fy_Wish_seek_j75, iI_lit, iI_add, iI_sub, iI_mul, iI_neg, obs, if_true, if_false, Int.reduceEq, Int.reduceLE, Int.reduceLT, Int.reduceAdd, Int.reduceSub, Int.reduceMul, Int.reduceNeg, Nat.reduceEqDiff, iI_le, iI_lt, iI_eq, ep, gR2_ok tu ru, x_c hu.1, e1, h0]
        rw [if_neg (by omega)]
      · obtain ⟨k4, k5⟩ := k3 h0
        have k6 := k5 u2 f2 (by rw [ef]; exact g5) v1
        by_cases hc : 0 ≤ C i ∧ C i < (bestN C i).1
        · have eb : bestN C (i + 1) = (C i, (i : Int)) := by
            show (if 0 ≤ C i ∧ C i < (bestN C i).1 then _ else _) = _
            rw [if_pos hc]
          refine ⟨(iI ((i : Int) + 1), sF (sF u2 w 0 (iI i)) w 1 (iI (C i))), ?_, rfl, (f2.sf (by rw [lbw]; exact hm)).sf (by rw [lbw]; exact hm), ?_, ?_, ?_⟩
          · have tu3 : yt (sF u2 w 0 (iI i)) w = some (.inr 4) ∨ yt (sF u2 w 0 (iI i)) w = some (.inr 5) := tu2
            simp (disch := omega) only [fy_Wish_seek_b31, fy_Wish_seek_j75, fy_Wish_seek_j101, iI_lit, iI_add, iI_sub, iI_mul, iI_neg, obs, if_true, if_false, Int.reduceEq, Int.reduceLE, Int.reduceLT, Int.reduceAdd, Int.reduceSub, Int.reduceMul, Int.reduceNeg, Nat.reduceEqDiff, iI_le, iI_lt, iI_eq, ep, gR2_ok tu ru, x_c hu.1, e1, h0, show ¬ (1 : Int) = 0 by omega, gR2_ok tu2 ru2, x_2 hu2.1, k6, gI2_ok tu2, ef, g3, wI2_ok tu2, wI2_ok tu3]
            rw [if_neg (by omega), if_pos (by omega), if_neg (by omega)]
            rcases hok with ⟨o1, o2⟩ | ⟨o1, o2, o3, o4, o5⟩
            · rw [if_pos (by omega)]
            · rw [if_neg (by omega)]
              have g6 := g4 o1
              simp (disch := omega) only [g6, iI_lit, iI_add, iI_sub, iI_mul, iI_neg, obs, if_true, if_false, Int.reduceEq, Int.reduceLE, Int.reduceLT, Int.reduceAdd, Int.reduceSub, Int.reduceMul, Int.reduceNeg, Nat.reduceEqDiff, iI_le, iI_lt, iI_eq]
              rw [if_pos (by omega)]
          · rw [sF_get, if_neg (by omega), sF_get, if_pos ⟨rfl, rfl⟩, eb]
          · intro _
            rw [sF_get, if_pos ⟨rfl, rfl⟩, eb]
          · rw [sF_get, if_neg (by omega), sF_get, if_neg (by omega), ef]
            exact g5
        · have eb : bestN C (i + 1) = bestN C i := by
            show (if 0 ≤ C i ∧ C i < (bestN C i).1 then _ else _) = _
            rw [if_neg hc]
          refine ⟨(iI ((i : Int) + 1), u2), ?_, rfl, f2, by rw [ef, eb]; exact g3, by rw [ef, eb]; exact g4, by rw [ef]; exact g5⟩
          simp (disch := omega) only [fy_Wish_seek_b31, fy_Wish_seek_j75, fy_Wish_seek_j101, iI_lit, iI_add, iI_sub, iI_mul, iI_neg, obs, if_true, if_false, Int.reduceEq, Int.reduceLE, Int.reduceLT, Int.reduceAdd, Int.reduceSub, Int.reduceMul, Int.reduceNeg, Nat.reduceEqDiff, iI_le, iI_lt, iI_eq, ep, gR2_ok tu ru, x_c hu.1, e1, h0, show ¬ (1 : Int) = 0 by omega, gR2_ok tu2 ru2, x_2 hu2.1, k6, gI2_ok tu2, ef, g3]
          rw [if_neg (by omega), if_pos (by omega)]
          by_cases hc0 : C i < 0
          · rw [if_pos hc0]
          · rw [if_neg hc0]
            rcases hok with ⟨o1, o2⟩ | ⟨o1, o2, o3, o4, o5⟩
            · exfalso; omega
            · rw [if_neg (by omega)]
              have g6 := g4 o1
              simp (disch := omega) only [g6, iI_lit, iI_add, iI_sub, iI_mul, iI_neg, obs, if_true, if_false, Int.reduceEq, Int.reduceLE, Int.reduceLT, Int.reduceAdd, Int.reduceSub, Int.reduceMul, Int.reduceNeg, Nat.reduceEqDiff, iI_le, iI_lt, iI_eq]
              rw [if_neg (by omega)]
    · rintro ⟨c, u⟩ ⟨g1, g2, g3, g4, g5⟩
      simp only at g1 g2 g3 g4 g5
      subst g1
      refine ⟨u, ?_, g2, g3, g4, g5⟩
      simp (disch := omega) only [fy_Wish_seek_b31, iI_lit, iI_add, iI_sub, iI_mul, iI_neg, obs, if_true, if_false, Int.reduceEq, Int.reduceLE, Int.reduceLT, Int.reduceAdd, Int.reduceSub, Int.reduceMul, Int.reduceNeg, Nat.reduceEqDiff, iI_le, iI_lt, iI_eq, ep]
      rw [if_pos (by omega)]
  obtain ⟨q, eq, fq, q0, q1, q3⟩ := hA
  have hok := bestN_ok hCk (p3 (lft ρ x b)).toNat
  generalize hB : bestN C (p3 (lft ρ x b)).toNat = B at *
  obtain ⟨tq, rq⟩ := hT q fq
  have hq := h.fr fq hLC
  -- laid
  have hJ : ∀ n' : Int, 0 ≤ n' → n' ≤ lft ρ x b → (0 < n' → 0 ≤ B.2) → ∃ y', fy_Wish_seek_j134 G q w (iI (lft ρ x b)) X (iI n') = some (iI (if B.2 < 0 then 0 else 1), y') ∧ yF O [2, 24, 104, 100 + wl, 213, 10] 0 0 y y' ∧ (∀ k, yf y' w k = yf q w k) ∧ yf y' X 13 = iI n' ∧ (∀ z, 0 ≤ z → z < n' → ya y' (X + 26) z.toNat = iI (dig B.2 (lft ρ x b) z)) := by
    intro n' n1 n2 n3
    have fs : yF O [2, 24, 104, 100 + wl, 213, 10] 0 0 y (sF q X 13 (iI n')) := fq.sf (by rw [x_lb h.1]; simp)
    have hloop : ∃ s, lp (fy_Wish_seek_b139 G w (iI (lft ρ x b))) (iI 0, sF q X 13 (iI n')) = some s ∧ (yF O [2, 24, 104, 100 + wl, 213, 10] 0 0 y s ∧ (∀ a k, yf s a k = yf (sF q X 13 (iI n')) a k) ∧ (∀ z, 0 ≤ z → z < n' → ya s (X + 26) z.toNat = iI (dig B.2 (lft ρ x b) z))) := by
      refine lp_inv (fun i s => s.1 = iI i ∧ yF O [2, 24, 104, 100 + wl, 213, 10] 0 0 y s.2 ∧ (∀ a k, yf s.2 a k = yf (sF q X 13 (iI n')) a k) ∧ (∀ z, 0 ≤ z → z < (i : Int) → ya s.2 (X + 26) z.toNat = iI (dig B.2 (lft ρ x b) z))) n'.toNat ?_ ?_ ⟨rfl, fs, fun _ _ => rfl, fun z z1 z2 => by omega⟩
      · rintro i ⟨c, u⟩ hi ⟨g1, g2, g3, g4⟩
        simp only at g1 g2 g3 g4
        subst g1
        obtain ⟨tu, ru⟩ := hT u g2
        have hu := h.fr g2 hLC
        have hb0 := n3 (by omega)
        have hb1 : B.2 < p3 (lft ρ x b) := by rcases hok with o | o <;> omega
        have e13 : gI 0 13 u X = some (iI n') := by
          unfold gI
          rw [if_pos hu.1.1.1, g3, sF_get, if_pos ⟨rfl, rfl⟩]
        have e00 : yf u w 0 = iI B.2 := by rw [g3, sF_get, if_neg (fun z => hwX z.1)]; exact q0
        have es := c_steerOf (v := B.2) (n := lft ρ x b) (k := i) hb0 (by omega) (by omega) (by omega) h3.2
        left
        refine ⟨(iI ((i : Int) + 1), yw u (X + 26) (i : Int).toNat (iI (dig B.2 (lft ρ x b) i))), ?_, rfl, g2.w (by rw [x_o26 h.1]; simp), g3, fun z z1 z2 => ?_⟩
        · simp (disch := omega) only [fy_Wish_seek_b139, gR2_ok tu ru, e13, iI_lit, iI_add, iI_sub, iI_mul, iI_neg, obs, if_true, if_false, Int.reduceEq, Int.reduceLE, Int.reduceLT, Int.reduceAdd, Int.reduceSub, Int.reduceMul, Int.reduceNeg, Nat.reduceEqDiff, iI_le, iI_lt, iI_eq, x_11 hu.1, gI2_ok tu, e00, es, wA_n 7 (x_t26 hu.1)]
          rw [if_neg (by omega)]
        · rw [yw_get]
          by_cases hz : z = i
          · subst hz
            rw [if_pos ⟨rfl, rfl⟩]
          · rw [if_neg (by omega)]
            exact g4 z z1 (by omega)
      · rintro ⟨c, u⟩ ⟨g1, g2, g3, g4⟩
        simp only at g1 g2 g3 g4
        subst g1
        obtain ⟨tu, ru⟩ := hT u g2
        have hu := h.fr g2 hLC
        have e13 : gI 0 13 u X = some (iI n') := by
          unfold gI
          rw [if_pos hu.1.1.1, g3, sF_get, if_pos ⟨rfl, rfl⟩]
        refine ⟨u, ?_, g2, g3, fun z z1 z2 => g4 z z1 (by omega)⟩
        simp (disch := omega) only [fy_Wish_seek_b139, gR2_ok tu ru, e13, iI_lit, iI_add, iI_sub, iI_mul, iI_neg, obs, if_true, if_false, Int.reduceEq, Int.reduceLE, Int.reduceLT, Int.reduceAdd, Int.reduceSub, Int.reduceMul, Int.reduceNeg, Nat.reduceEqDiff, iI_le, iI_lt, iI_eq]
        rw [if_pos (by omega)]
    obtain ⟨s, es, s1, s2, s3⟩ := hloop
    obtain ⟨ts, rs⟩ := hT s s1
    have es0 : yf s w 0 = iI B.2 := by rw [s2, sF_get, if_neg (fun z => hwX z.1)]; exact q0
    refine ⟨s, ?_, s1, fun k => by rw [s2, sF_get, if_neg (fun z => hwX z.1)], by rw [s2, sF_get, if_pos ⟨rfl, rfl⟩], s3⟩
    unfold fy_Wish_seek_j134
    rw [x_wI hq.1 rfl, obs, show ((0, sF q X 13 (iI n')) : Int32 × yS) = (iI 0, sF q X 13 (iI n')) from rfl, es, obs, gI2_ok ts, obs, es0, i0]
    simp (disch := omega) only [iI_lt]
    split <;> rfl
  have hN2 := h.2.2.1
  have e9 : fy_Wish_seek G y w (iI b) = (if 0 ≤ B.2 then fy_Wish_seek_j134 G q w (iI (lft ρ x b)) X (iI (lft ρ x b)) else fy_Wish_seek_j134 G q w (iI (lft ρ x b)) X (iI 0)) := by
    have t0 : yt (sF y w 0 (iI (-1))) w = some (.inr 4) ∨ yt (sF y w 0 (iI (-1))) w = some (.inr 5) := ht
    have hS0 := h.fr f0 hLC
    simp (disch := omega) only [fy_Wish_seek, iI_lit, iI_add, iI_sub, iI_mul, iI_neg, obs, if_true, if_false, Int.reduceEq, Int.reduceLE, Int.reduceLT, Int.reduceAdd, Int.reduceSub, Int.reduceMul, Int.reduceNeg, Nat.reduceEqDiff, wI2_ok ht, gR2_ok t0 (show yr (sF y w 0 (iI (-1))) w 2 = some X from hr2), x_0 hS0.1, r_row hS0.2.1, x_1 hS0.1, s_1 hS0.2.2.1, s_a1 hS0.2.2.1 hS0.2.2.2 h1 hb4]
    rw [show rR ρ - x (4 + b) = lft ρ x b from rfl, eq]
    simp (disch := omega) only [iI_lit, iI_add, iI_sub, iI_mul, iI_neg, obs, if_true, if_false, Int.reduceEq, Int.reduceLE, Int.reduceLT, Int.reduceAdd, Int.reduceSub, Int.reduceMul, Int.reduceNeg, Nat.reduceEqDiff, gR2_ok tq rq, gI2_ok tq, q0, iI_le, iI_lt, iI_eq]
  rw [e9]
  by_cases hb0 : 0 ≤ B.2
  · obtain ⟨y', a1, a2, a3, a4, a5⟩ := hJ (lft ρ x b) h3.1 (Int.le_refl _) (fun _ => hb0)
    refine ⟨y', by rw [if_pos hb0]; exact a1, a2, by rw [a3]; exact q0, fun z => by rw [a3]; exact q1 z, ?_, fun _ => a5⟩
    rw [a4, if_neg (by omega)]
  · obtain ⟨y', a1, a2, a3, a4, a5⟩ := hJ 0 (by omega) h3.1 (fun z => by omega)
    refine ⟨y', by rw [if_neg hb0]; exact a1, a2, by rw [a3]; exact q0, fun z => absurd z hb0, ?_, fun z => absurd z hb0⟩
    rw [a4, if_pos (by omega)]
end D6

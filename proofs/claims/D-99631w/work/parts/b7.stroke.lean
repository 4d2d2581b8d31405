/-! LAYER 3: the model's stroke in earnest -/
set_option maxRecDepth 100000
section B7
variable {μ : Mu} {s : mS}
theorem rF_le {a z : Int} (h : 0 ≤ a ∧ a ≤ 100) : (iI a ≤ iI (z % 100)) ↔ a ≤ z % 100 := iI_le (by omega) (by omega) (by omega) (by omega)
theorem j83_go {u u2 u3 : mS} {bb tt oo : Int32} {z a : Int} {v : Int32} (g27 : u.2.2.1 23 27 = iI z) (h1 : 0 ≤ z) (h2 : z < 1000) (e50 : u.1 50 = iI a) (ha : 0 ≤ a ∧ a ≤ 100) (e3 : fm_goStroke u bb tt oo (iI (if a ≤ z % 100 then 1 else 2)) = some (v, u2)) (e5 : fm_keepAir u2 = some u3) : fm_stroke_j83 u bb tt oo = some (v, u3) := by
  unfold fm_stroke_j83
  rw [ld27 g27]
  rw [Option.bind_some]
  rw [rm100 h1 h2]
  rw [Option.bind_some]
  simp only [e50, i1, show (2 : Int32) = iI 2 from iI_lit 2, rF_le ha]
  by_cases hq : a ≤ z % 100
  · rw [if_pos hq] at e3 ⊢
    rw [e3]
    rw [Option.bind_some]
    rw [e5]
    rfl
  · rw [if_neg hq] at e3 ⊢
    rw [e3]
    rw [Option.bind_some]
    rw [e5]
    rfl
theorem j37_go {s s1 : mS} {bb tt oo t0 t1 : Int32} {z : Int} {r : Int32 × mS} (hne : ¬ t0 = t1) (e1 : fm_act s = some s1) (c27 : s1.2.2.1 23 27 = iI z) (h1 : 0 ≤ z) (h2 : z < 1000) (e : fm_stroke_j83 (aw s1 23 27 (iI ((z * 137 + 71) % 1000))) bb tt (if oo = 0 then -1 else 1) = some r) : fm_stroke_j37 s bb tt oo t0 t1 = some r := by
  unfold fm_stroke_j37
  rw [if_neg hne, e1]
  rw [Option.bind_some]
  rw [ld27 c27]
  rw [Option.bind_some]
  rw [seed_rm h1 h2]
  rw [Option.bind_some]
  rw [sto27]
  rw [Option.bind_some]
  by_cases ho : oo = 0
  · rw [if_pos ho] at e ⊢
    exact e
  · rw [if_neg ho] at e ⊢
    exact e
theorem m_stroke (h : MR μ s) (hw : wfM μ) {b t out : Int} (h1 : -2147483648 ≤ b) (h2 : b < 2147483648) (h3 : -2147483648 ≤ t) (h4 : t < 2147483648) (h5 : out = 0 ∨ out = 1) : (¬ canStr μ b t out → fm_stroke s (iI b) (iI t) (iI out) = some (iI (-1), s)) ∧ (canStr μ b t out → ∃ s', fm_stroke s (iI b) (iI t) (iI out) = some (iI (strV (uR μ) (seedX (uX μ)) b t (onI out) (strongI (uR μ) (uX μ))), s') ∧ MR (uNow (uAct μ) (strS (uR μ) (seedX (uX μ)) b t (onI out) (strongI (uR μ) (uX μ)))) s') := by
  have hwR := hw.1
  have hR := h.1
  have ha := h.2.1
  have hb := hwR.2.2.1
  have hr := hwR.2.1
  unfold fm_stroke
  rw [m_isBoard hR hwR h1 h2]
  by_cases q1 : 0 ≤ b ∧ b < rB (uR μ)
  · have a4 := ha (4 + b) (by omega) (by omega)
    have hx := hw.2.1.1 b q1.1 q1.2
    simp (disch := omega) only [if_pos q1, iI_lit, iI_add, iI_sub, iI_mul, iI_neg, Option.bind_some, if_true, if_false, Int.reduceEq, Int.reduceLE, Int.reduceLT, Int.reduceAdd, Int.reduceSub, Int.reduceMul, Int.reduceNeg, Nat.reduceEqDiff, iI_le, iI_lt, iI_eq, ld_i, sto_i, show ¬ iI 1 = iI 0 by decide, m_isIn, a4, hR.2.1]
    by_cases q2 : -1 ≤ t ∧ t ≤ 1
    · simp only [if_pos q2, iI_lit, iI_add, iI_sub, iI_mul, iI_neg, Option.bind_some, if_true, if_false, Int.reduceEq, Int.reduceLE, Int.reduceLT, Int.reduceAdd, Int.reduceSub, Int.reduceMul, Int.reduceNeg, Nat.reduceEqDiff, show ¬ iI 1 = iI 0 by decide]
      have hj : (if out = 0 then fm_stroke_j37 s (iI b) (iI t) (iI out) (iI (uX μ (4 + b))) (iI 0) else fm_stroke_j37 s (iI b) (iI t) (iI out) (iI (uX μ (4 + b))) (iI (rR (uR μ)))) = fm_stroke_j37 s (iI b) (iI t) (iI out) (iI (uX μ (4 + b))) (iI (if out = 0 then 0 else rR (uR μ))) := by
        split <;> rfl
      rw [hj]
      have hrr : 0 ≤ (if out = 0 then 0 else rR (uR μ)) ∧ (if out = 0 then 0 else rR (uR μ)) ≤ 6 := by split <;> omega
      refine ⟨fun hn => ?_, fun hc => ?_⟩
      · have : uX μ (4 + b) = (if out = 0 then 0 else rR (uR μ)) := Classical.byContradiction (fun z => hn ⟨q1, q2, z⟩)
        simp (disch := omega) only [fm_stroke_j37, iI_lit, iI_add, iI_sub, iI_mul, iI_neg, Option.bind_some, if_true, if_false, Int.reduceEq, Int.reduceLE, Int.reduceLT, Int.reduceAdd, Int.reduceSub, Int.reduceMul, Int.reduceNeg, Nat.reduceEqDiff, iI_le, iI_lt, iI_eq, if_pos this]
      · have hne' : ¬ iI (uX μ (4 + b)) = iI (if out = 0 then 0 else rR (uR μ)) := by
          clear hj
          intro z
          rw [iI_eq (by omega) (by omega) (by omega) (by omega)] at z
          exact hc.2.2 z
        obtain ⟨s1, e1, m1, a1, f1⟩ := m_act h hw
        have hR1 : okR (uR μ) s1 := m1.1
        have c27 : s1.2.2.1 23 27 = iI (uX μ 27) := a1 27 (by omega) (by omega)
        have hs27 := hw.2.1.2.2
        have hsd : (uX μ 27 * 137 + 71) % 1000 = seedX (uX μ) 27 := by unfold seedX upI; rw [if_pos rfl]
        have hsr : 0 ≤ seedX (uX μ) 27 ∧ seedX (uX μ) 27 < 1000 := by rw [← hsd]; omega
        have a2 : ar (aw s1 23 27 (iI (seedX (uX μ) 27))) 23 28 (seedX (uX μ)) := by
          rw [← hsd]
          exact ar_aw (z := 27) (v := (uX μ 27 * 137 + 71) % 1000) a1 (by omega)
        have f2 : fr [] [23] s1 (aw s1 23 27 (iI (seedX (uX μ) 27))) := fr.refl.aw rfl
        have hR2 := hR1.fr f2 rfl rfl
        have hcan := str_can hw hc
        have hF := hwR.2.2.2.2.1
        have hws := wfS_seed hwR hw.2.1
        have g27 : (aw s1 23 27 (iI (seedX (uX μ) 27))).2.2.1 23 27 = iI (seedX (uX μ) 27) := by rw [aw_get, if_pos ⟨rfl, rfl⟩]
        have hst : 0 ≤ strongI (uR μ) (uX μ) ∧ strongI (uR μ) (uX μ) ≤ 2 := by unfold strongI; split <;> omega
        obtain ⟨s3, e3, f3, a3⟩ := m_goStroke hR2 hwR a2 hws (b := b) (t := t) (on := onI out) (k := strongI (uR μ) (uX μ)) q1.1 q1.2 q2.1 q2.2 hst.1 hst.2 hcan.1 hcan.2
        obtain ⟨s5, e5, f5, a5⟩ := m_keepAir a3
        refine ⟨s5, ?_, ?_⟩
        · refine j37_go hne' e1 c27 hs27.1 hs27.2 ?_
          rw [hsd]
          have hon : (if iI out = 0 then (-1 : Int32) else 1) = iI (onI out) := by
            rcases h5 with h5 | h5
            · rw [h5]; rfl
            · rw [h5]; rfl
          rw [hon]
          exact j83_go g27 hsr.1 hsr.2 hR2.2.2.2.2.1 hF e3 e5
        · have fT : fr [] [8, 9, 22, 23] s1 s5 := (f2.mono rfl rfl).trans ((f3.mono rfl rfl).trans (f5.mono rfl rfl))
          exact MR.now m1 fT rfl a5
    · simp only [if_neg q2, iI_lit, iI_add, iI_sub, iI_mul, iI_neg, Option.bind_some, if_true, if_false, Int.reduceEq, Int.reduceLE, Int.reduceLT, Int.reduceAdd, Int.reduceSub, Int.reduceMul, Int.reduceNeg, Nat.reduceEqDiff]
      exact ⟨fun _ => trivial, fun hc => absurd hc.2.1 q2⟩
  · simp only [if_neg q1, iI_lit, iI_add, iI_sub, iI_mul, iI_neg, Option.bind_some, if_true, if_false, Int.reduceEq, Int.reduceLE, Int.reduceLT, Int.reduceAdd, Int.reduceSub, Int.reduceMul, Int.reduceNeg, Nat.reduceEqDiff]
    exact ⟨fun _ => trivial, fun hc => absurd hc.1 q1⟩
end B7

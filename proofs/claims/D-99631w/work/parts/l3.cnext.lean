/-! LAYER 3, the text: the component's next token -/
set_option maxRecDepth 100000
section L3
variable {G : ai_G} {T : Int → Int} {n : Int} {R A F r : Nat} {y : yS} {p q : Int}
theorem c_readWord (hT : txO T n) (h : RB T n R A F r y) (h4 : yf y R 4 = iI q) (h0 : 0 ≤ q) (hp : q ≤ n) : ∃ u, fy_Reader_readWord G y R = some u ∧ rdY R y u ∧ yf u R 4 = iI q ∧ (rnE isLt T n q - q ≤ 8 → yf u R 5 = iI (rnE isLt T n q) ∧ yf u R 6 = iI 1 ∧ yj u R 8 = wv T q (rnE isLt T n q - q).toNat) ∧ (¬ rnE isLt T n q - q ≤ 8 → yf u R 6 = iI 4) := by
  have hn := hT.1
  obtain ⟨⟨a1, a2⟩, -, -⟩ := rnE_ok (P := isLt) (T := T) hp
  have t0 := h.1.1
  have f0 : rdY R y (sF (sJ (sF y R 6 (iI 1)) R 8 0) R 5 (iI q)) := ((rdY.refl.sf (by omega) (by omega)).sj).sf (by omega) (by omega)
  generalize hv : sF (sJ (sF y R 6 (iI 1)) R 8 0) R 5 (iI q) = v at f0
  have v4 : yf v R 4 = iI q := by rw [← hv, sF_get, if_neg (by omega), yf_sJ, sF_get, if_neg (by omega)]; exact h4
  have v5 : yf v R 5 = iI q := by rw [← hv, sF_get, if_pos ⟨rfl, rfl⟩]
  have v6 : yf v R 6 = iI 1 := by rw [← hv, sF_get, if_neg (by omega), yf_sJ, sF_get, if_pos ⟨rfl, rfl⟩]
  have v8 : yj v R 8 = 0 := by rw [← hv, yj_sF, sJ_get, if_pos ⟨rfl, rfl⟩]
  obtain ⟨u, e1, f1, u4, u6, u5, u8⟩ := c_wordL (G := G) hT (h.rd f0) v4 v5 v8 h0 hp
  have hu := h.rd (f0.trans f1)
  have tu := hu.1.1
  rw [v6] at u6
  generalize rnE isLt T n q = e at *
  have ts : yt (sF y R 6 (iI 1)) R = some (.inr 8) := t0
  have tj : yt (sJ (sF y R 6 (iI 1)) R 8 0) R = some (.inr 8) := t0
  have e4 : yf (sJ (sF y R 6 (iI 1)) R 8 0) R 4 = iI q := by rw [yf_sJ, sF_get, if_neg (by omega)]; exact h4
  have key : fy_Reader_readWord G y R = if e - q ≤ 8 then some u else some (sF u R 6 (iI 4)) := by
    unfold fy_Reader_readWord
    rw [i1, wI_ok t0, obs, wJ_ok ts, obs, gI_ok tj, obs, e4, wI_ok tj, obs, hv, e1]
    simp (disch := omega) only [iI_lit, iI_add, iI_sub, iI_mul, iI_neg, obs, if_true, if_false, Int.reduceEq, Int.reduceLE, Int.reduceLT, Int.reduceAdd, Int.reduceSub, Int.reduceMul, Int.reduceNeg, Nat.reduceEqDiff, iI_le, iI_lt, iI_eq, gI_ok tu, u5, u4, wI_ok tu]
  rw [key]
  by_cases c : e - q ≤ 8
  · rw [if_pos c]
    exact ⟨u, rfl, f0.trans f1, u4, fun _ => ⟨u5, u6, u8 c⟩, fun z => absurd c z⟩
  · rw [if_neg c]
    exact ⟨_, rfl, (f0.trans f1).sf (by omega) (by omega), by rw [sF_get, if_neg (by omega)]; exact u4, fun z => absurd z c, fun _ => by rw [sF_get, if_pos ⟨rfl, rfl⟩]⟩
theorem c_readNumber (hT : txO T n) (h : RB T n R A F r y) (h4 : yf y R 4 = iI q) (h0 : 0 ≤ q) (hp : q ≤ n) : ∃ u, fy_Reader_readNumber G y R = some u ∧ rdY R y u ∧ yf u R 4 = iI q ∧ (¬ (4 < rnE isDg T n q - q ∨ (rnE isDg T n q < n ∧ isLt (T (rnE isDg T n q)) = true)) → yf u R 5 = iI (rnE isDg T n q) ∧ yf u R 6 = iI 2 ∧ yf u R 7 = iI (nv T q (rnE isDg T n q - q).toNat)) ∧ ((4 < rnE isDg T n q - q ∨ (rnE isDg T n q < n ∧ isLt (T (rnE isDg T n q)) = true)) → yf u R 6 = iI 4) := by
  have hn := hT.1
  obtain ⟨⟨a1, a2⟩, -, -⟩ := rnE_ok (P := isDg) (T := T) hp
  have t0 := h.1.1
  have f0 : rdY R y (sF (sF (sF y R 6 (iI 2)) R 7 (iI 0)) R 5 (iI q)) := ((rdY.refl.sf (by omega) (by omega)).sf (by omega) (by omega)).sf (by omega) (by omega)
  generalize hv : sF (sF (sF y R 6 (iI 2)) R 7 (iI 0)) R 5 (iI q) = v at f0
  have v4 : yf v R 4 = iI q := by rw [← hv, sF_get, if_neg (by omega), sF_get, if_neg (by omega), sF_get, if_neg (by omega)]; exact h4
  have v5 : yf v R 5 = iI q := by rw [← hv, sF_get, if_pos ⟨rfl, rfl⟩]
  have v6 : yf v R 6 = iI 2 := by rw [← hv, sF_get, if_neg (by omega), sF_get, if_neg (by omega), sF_get, if_pos ⟨rfl, rfl⟩]
  have v7 : yf v R 7 = iI 0 := by rw [← hv, sF_get, if_neg (by omega), sF_get, if_pos ⟨rfl, rfl⟩]
  obtain ⟨u, e1, f1, u4, u6, u5, u7⟩ := c_numL (G := G) hT (h.rd f0) v4 v5 v7 h0 hp
  have hu := h.rd (f0.trans f1)
  have tu := hu.1.1
  rw [v6] at u6
  generalize rnE isDg T n q = e at *
  have ts : yt (sF y R 6 (iI 2)) R = some (.inr 8) := t0
  have tj : yt (sF (sF y R 6 (iI 2)) R 7 (iI 0)) R = some (.inr 8) := t0
  have e4 : yf (sF (sF y R 6 (iI 2)) R 7 (iI 0)) R 4 = iI q := by rw [sF_get, if_neg (by omega), sF_get, if_neg (by omega)]; exact h4
  have es := c_sign (G := G) hT hu (k := e) (by omega) (by omega)
  have hb := hs_b hT e
  have el := c_isLt (c := hs T n e) (by omega) (by omega)
  have hle : isLt (hs T n e) = true ↔ (e < n ∧ isLt (T e) = true) := by
    unfold hs
    by_cases d : e < n
    · rw [if_pos d]; exact ⟨fun z => ⟨d, z⟩, fun z => z.2⟩
    · rw [if_neg d]; exact ⟨fun z => absurd z (by decide), fun z => absurd z.1 d⟩
  have key : fy_Reader_readNumber G y R = if (4 < e - q ∨ (e < n ∧ isLt (T e) = true)) then some (sF u R 6 (iI 4)) else some u := by
    unfold fy_Reader_readNumber
    rw [show (2 : Int32) = iI 2 from rfl, i0, wI_ok t0, obs, wI_ok ts, obs, gI_ok tj, obs, e4, wI_ok tj, obs, hv, e1]
    simp (disch := omega) only [iI_lit, iI_add, iI_sub, iI_mul, iI_neg, obs, if_true, if_false, Int.reduceEq, Int.reduceLE, Int.reduceLT, Int.reduceAdd, Int.reduceSub, Int.reduceMul, Int.reduceNeg, Nat.reduceEqDiff, iI_le, iI_lt, iI_eq, gI_ok tu, u5, u4, wI_ok tu, ck_ok tu, es, el, hle]
    by_cases c1 : 4 < e - q
    · rw [if_pos c1, if_pos (Or.inl c1)]
    · rw [if_neg c1]
      by_cases c2 : e < n ∧ isLt (T e) = true
      · simp only [if_pos c2, if_pos (show 4 < e - q ∨ (e < n ∧ isLt (T e) = true) from Or.inr c2), show ¬ iI 1 = iI 0 by decide, if_false]
      · have c3 : ¬ (4 < e - q ∨ (e < n ∧ isLt (T e) = true)) := by
          rintro (z | z)
          · exact c1 z
          · exact c2 z
        simp only [if_neg c2, if_neg c3, if_true]
  rw [key]
  by_cases c : (4 < e - q ∨ (e < n ∧ isLt (T e) = true))
  · rw [if_pos c]
    exact ⟨_, rfl, (f0.trans f1).sf (by omega) (by omega), by rw [sF_get, if_neg (by omega)]; exact u4, fun z => absurd c z, fun _ => by rw [sF_get, if_pos ⟨rfl, rfl⟩]⟩
  · rw [if_neg c]
    exact ⟨u, rfl, f0.trans f1, u4, fun _ => ⟨u5, u6, u7 (by omega)⟩, fun z => absurd z c⟩
theorem c_nextT (hT : txO T n) (h : RB T n R A F r y) (h5 : yf y R 5 = iI p) (h0 : 0 ≤ p) (hp : p ≤ n) : ∃ y', fy_Reader_next G y R = some y' ∧ rdY R y y' ∧ CT y' R (tk T n p) := by
  have hn := hT.1
  have t0 := h.1.1
  have f0 : rdY R y (sF y R 4 (iI p)) := rdY.refl.sf (by omega) (by omega)
  obtain ⟨u, e1, f1, u4⟩ := c_skip (G := G) hT (h.rd f0) (by rw [sF_get, if_pos ⟨rfl, rfl⟩]) h0 hp
  obtain ⟨⟨a1, a2⟩, -, -⟩ := rnE_ok (P := isBl) (T := T) hp
  unfold tk
  generalize rnE isBl T n p = q at *
  have f2 := f0.trans f1
  have hu := h.rd f2
  have tu := hu.1.1
  have es := c_sign (G := G) hT hu (k := q) (by omega) (by omega)
  have u1 := hu.2.1.2.1
  unfold tkA
  by_cases c : q < n
  · rw [if_pos c]
    rw [show hs T n q = T q from if_pos c] at es
    have hb := hT.2 q
    have l1 := c_isLt (c := T q) (by omega) (by omega)
    have l2 := c_isDg (c := T q) (by omega) (by omega)
    have l3 := c_isSg (c := T q) (by omega) (by omega)
    have f3 : rdY R y (sF u R 5 (iI (q + 1))) := f2.sf (by omega) (by omega)
    have w4 : yf (sF u R 5 (iI (q + 1))) R 4 = iI q := by rw [sF_get, if_neg (by omega)]; exact u4
    have w1 : yf (sF u R 5 (iI (q + 1))) R 1 = iI n := by rw [sF_get, if_neg (by omega)]; exact u1
    have w5 : yf (sF u R 5 (iI (q + 1))) R 5 = iI (q + 1) := by rw [sF_get, if_pos ⟨rfl, rfl⟩]
    have key : fy_Reader_next G y R = (if isLt (T q) = true then (fy_Reader_readWord G (sF u R 5 (iI (q + 1))) R).bind fun p122 => some p122 else if isDg (T q) = true then (fy_Reader_readNumber G (sF u R 5 (iI (q + 1))) R).bind fun p136 => some p136 else some (sF (sF u R 5 (iI (q + 1))) R 6 (iI (if isSg (T q) = true then 3 else 4)))) := by
      have tw : yt (sF u R 5 (iI (q + 1))) R = some (.inr 8) := tu
      unfold fy_Reader_next
      rw [gI_ok t0, obs, h5, wI_ok t0, obs, e1, obs]
      simp (disch := omega) only [fy_Reader_next_j58, fy_Reader_next_j92, gI_ok tu, ck_ok tu, wI_ok tu, u4, u1, es, iI_lit, iI_add, iI_sub, iI_mul, iI_neg, obs, if_true, if_false, Int.reduceEq, Int.reduceLE, Int.reduceLT, Int.reduceAdd, Int.reduceSub, Int.reduceMul, Int.reduceNeg, Nat.reduceEqDiff, iI_le, iI_lt, iI_eq, gI_ok tw, ck_ok tw, wI_ok tw, w4, w1, l1, l2, l3, if_neg (show ¬ n ≤ q by omega), if_pos c]
      by_cases c1 : isLt (T q) = true
      · simp only [if_pos c1, show ¬ iI 1 = iI 0 by decide, if_false]
      · simp only [if_neg c1, if_true]
        by_cases c2 : isDg (T q) = true
        · simp only [if_pos c2, show ¬ iI 1 = iI 0 by decide, if_false]
        · simp only [if_neg c2, if_true]
          by_cases c3 : isSg (T q) = true
          · simp only [if_pos c3, show ¬ iI 1 = iI 0 by decide, if_false]
          · simp only [if_neg c3, if_true]
    generalize hv : sF u R 5 (iI (q + 1)) = v at *
    have hv2 := h.rd f3
    rw [key]
    by_cases c1 : isLt (T q) = true
    · rw [if_pos c1, if_pos c1]
      obtain ⟨z, k1, k2, k3, k4, k5⟩ := c_readWord (G := G) hT hv2 w4 (by omega) a2
      rw [k1, obs]
      refine ⟨z, rfl, f3.trans k2, ?_⟩
      by_cases c2 : rnE isLt T n q - q ≤ 8
      · rw [if_pos c2]
        obtain ⟨k6, k7, k8⟩ := k4 c2
        exact ⟨k3, fun _ => k6, k7, fun z => absurd (show (1 : Int) = 2 from z) (by decide), fun _ => k8⟩
      · rw [if_neg c2]
        exact ⟨k3, fun z => absurd rfl z, k5 c2, fun z => absurd (show (3 : Int) = 2 from z) (by decide), fun z => absurd (show (3 : Int) = 1 from z) (by decide)⟩
    · rw [if_neg c1, if_neg c1]
      by_cases c2 : isDg (T q) = true
      · rw [if_pos c2, if_pos c2]
        obtain ⟨z, k1, k2, k3, k4, k5⟩ := c_readNumber (G := G) hT hv2 w4 (by omega) a2
        rw [k1, obs]
        refine ⟨z, rfl, f3.trans k2, ?_⟩
        by_cases c3 : 4 < rnE isDg T n q - q ∨ (rnE isDg T n q < n ∧ isLt (T (rnE isDg T n q)) = true)
        · rw [if_pos c3]
          exact ⟨k3, fun z => absurd rfl z, k5 c3, fun z => absurd (show (3 : Int) = 2 from z) (by decide), fun z => absurd (show (3 : Int) = 1 from z) (by decide)⟩
        · rw [if_neg c3]
          obtain ⟨k6, k7, k8⟩ := k4 c3
          exact ⟨k3, fun _ => k6, k7, fun _ => k8, fun z => absurd (show (2 : Int) = 1 from z) (by decide)⟩
      · rw [if_neg c2, if_neg c2]
        refine ⟨_, rfl, f3.sf (by omega) (by omega), ?_⟩
        by_cases c3 : isSg (T q) = true
        · rw [if_pos c3, if_pos c3]
          have n12 := isSg_t.mp c3
          refine ⟨?_, fun _ => ?_, ?_, fun z => ?_, fun z => ?_⟩
          · rw [sF_get, if_neg (by omega)]; exact w4
          · rw [sF_get, if_neg (by omega)]; exact w5
          · rw [sF_get, if_pos ⟨rfl, rfl⟩]
            show iI 3 = iI (kdT (T q))
            unfold kdT
            rw [if_neg (by omega), if_neg (by omega), if_neg (by omega), if_neg (by omega)]
          · have z : T q = 2 := z
            omega
          · have z : T q = 1 := z
            omega
        · rw [if_neg c3, if_neg c3]
          refine ⟨?_, fun z => absurd rfl z, ?_, fun z => absurd (show (3 : Int) = 2 from z) (by decide), fun z => absurd (show (3 : Int) = 1 from z) (by decide)⟩
          · rw [sF_get, if_neg (by omega)]; exact w4
          · rw [sF_get, if_pos ⟨rfl, rfl⟩]
            rfl
  · rw [if_neg c]
    have tw : yt (sF u R 5 (iI q)) R = some (.inr 8) := tu
    have w4 : yf (sF u R 5 (iI q)) R 4 = iI q := by rw [sF_get, if_neg (by omega)]; exact u4
    have w1 : yf (sF u R 5 (iI q)) R 1 = iI n := by rw [sF_get, if_neg (by omega)]; exact u1
    refine ⟨sF (sF u R 5 (iI q)) R 6 (iI 0), ?_, (f2.sf (by omega) (by omega)).sf (by omega) (by omega), ?_, fun _ => ?_, ?_, fun z => absurd (show (0 : Int) = 2 from z) (by decide), fun z => absurd (show (0 : Int) = 1 from z) (by decide)⟩
    · unfold fy_Reader_next
      rw [gI_ok t0, obs, h5, wI_ok t0, obs, e1, obs]
      simp (disch := omega) only [fy_Reader_next_j58, fy_Reader_next_j92, gI_ok tu, ck_ok tu, wI_ok tu, u4, u1, es, iI_lit, iI_add, iI_sub, iI_mul, iI_neg, obs, if_true, if_false, Int.reduceEq, Int.reduceLE, Int.reduceLT, Int.reduceAdd, Int.reduceSub, Int.reduceMul, Int.reduceNeg, Nat.reduceEqDiff, iI_le, iI_lt, iI_eq, gI_ok tw, ck_ok tw, wI_ok tw, w4, w1, if_pos (show n ≤ q by omega), if_neg c]
    · rw [sF_get, if_neg (by omega)]; exact w4
    · rw [sF_get, if_neg (by omega), sF_get, if_pos ⟨rfl, rfl⟩]
    · rw [sF_get, if_pos ⟨rfl, rfl⟩]; rfl
end L3

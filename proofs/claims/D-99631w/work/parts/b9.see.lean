/-! LAYER 3: the model's sights and boxes -/
set_option maxRecDepth 100000
section B9
variable {μ : Mu} {s : mS}
/-- one more sight -/
def uSee (μ : Mu) (sort strokes much is : Int) : Mu := (uR μ, uX μ, upN (uS μ) 75 (uS μ 75 + 1), uW μ, uB μ, fun j => if j = 34 then upI (uA μ 34) (uS μ 75) sort else if j = 35 then upI (uA μ 35) (uS μ 75) strokes else if j = 36 then upI (uA μ 36) (uS μ 75) much else if j = 37 then upI (uA μ 37) (uS μ 75) (uS μ 76) else if j = 38 then upI (uA μ 38) (uS μ 75) (-1) else if j = 39 then upI (uA μ 39) (uS μ 75) is else uA μ j)
def canSee (μ : Mu) (strokes : Int) : Prop := ¬ rB (uR μ) = 0 ∧ (1 ≤ strokes ∧ strokes ≤ rR (uR μ)) ∧ ¬ uS μ 75 = 30
theorem ar_ext {j : Nat} {n v : Int} {f : Int → Int} (h : ar s j n f) (hn : 0 ≤ n) : ar (aw s j n.toNat (iI v)) j (n + 1) (upI f n v) := by
  intro z z1 z2
  rw [aw_get]
  unfold upI
  by_cases hz : z = n
  · rw [if_pos ⟨rfl, by rw [hz]⟩, if_pos hz]
  · rw [if_neg (by omega), if_neg hz]
    exact h z z1 (by omega)
theorem m_see (h : MR μ s) (hw : wfM μ) {sort strokes much is : Int} (h1 : -2147483648 ≤ strokes) (h2 : strokes < 2147483648) (h3 : is = 0 ∨ is = 1) : (¬ canSee μ strokes → fm_see s (iI sort) (iI strokes) (iI much) (iI is) = some (iI (-1), s)) ∧ (canSee μ strokes → ∃ s', fm_see s (iI sort) (iI strokes) (iI much) (iI is) = some (iI (uS μ 75), s') ∧ MR (uSee μ sort strokes much is) s') := by
  have hwR := hw.1
  have hb := hwR.2.2.1
  have hr := hwR.2.1
  have hs := hw.2.2.2.2.2.2.2.1
  have hR := h.1
  have a7 : s.1 75 = iI (uS μ 75) := h.2.2.1.2.2.2.2.2.2.1
  have a8 : s.1 76 = iI (uS μ 76) := h.2.2.1.2.2.2.2.2.2.2
  unfold fm_see
  simp (disch := omega) only [iI_lit, iI_add, iI_sub, iI_mul, iI_neg, Option.bind_some, if_true, if_false, Int.reduceEq, Int.reduceLE, Int.reduceLT, Int.reduceAdd, Int.reduceSub, Int.reduceMul, Int.reduceNeg, Nat.reduceEqDiff, iI_le, iI_lt, iI_eq, hR.2.1, hR.2.2.1, a7, m_isIn]
  by_cases q1 : rB (uR μ) = 0
  · rw [if_pos q1]
    exact ⟨fun _ => rfl, fun z => absurd q1 z.1⟩
  · rw [if_neg q1]
    by_cases q2 : 1 ≤ strokes ∧ strokes ≤ rR (uR μ)
    · simp only [if_pos q2, iI_lit, iI_add, iI_sub, iI_mul, iI_neg, Option.bind_some, if_true, if_false, Int.reduceEq, Int.reduceLE, Int.reduceLT, Int.reduceAdd, Int.reduceSub, Int.reduceMul, Int.reduceNeg, Nat.reduceEqDiff, show ¬ iI 1 = iI 0 by decide]
      by_cases q3 : uS μ 75 = 30
      · rw [if_pos q3]
        exact ⟨fun _ => rfl, fun z => absurd q3 z.2.2⟩
      · rw [if_neg q3]
        refine ⟨fun z => absurd ⟨q1, q2, q3⟩ z, fun _ => ?_⟩
        simp (disch := omega) only [iI_lit, iI_add, iI_sub, iI_mul, iI_neg, Option.bind_some, if_true, if_false, Int.reduceEq, Int.reduceLE, Int.reduceLT, Int.reduceAdd, Int.reduceSub, Int.reduceMul, Int.reduceNeg, Nat.reduceEqDiff, sto_w, aw_1, a7, a8, stb_1, pI, si_get]
        have f : fr [75] [34, 35, 36, 37, 38, 39] s (mSi (aw (aw (aw (aw (aw (aw s 34 (uS μ 75).toNat (iI sort)) 35 (uS μ 75).toNat (iI strokes)) 36 (uS μ 75).toNat (iI much)) 39 (uS μ 75).toNat (iI is)) 37 (uS μ 75).toNat (iI (uS μ 76))) 38 (uS μ 75).toNat (iI (-1))) 75 (iI (uS μ 75 + 1))) := ((((((fr.refl.aw rfl).aw rfl).aw rfl).aw rfl).aw rfl).aw rfl).si rfl
        obtain ⟨-, ha, ⟨b1, b2, b3, b4, b5, b6, b7, b8⟩, h4, h5, h6, h7, h8, h9⟩ := h
        refine ⟨_, by rw [show uS μ 75 + 1 - 1 = uS μ 75 by omega], hR.fr f rfl rfl, f.ar ha rfl, ⟨b1, b2, b3, b4, b5, b6, rfl, b8⟩, f.ar h4 rfl, f.ar h5 rfl, ?_, f.ar h7 rfl, h8, h9⟩
        intro j hj
        have e34 := ar_ext (v := sort) (h6 34 (by decide)) hs.1
        have e35 := ar_ext (v := strokes) (h6 35 (by decide)) hs.1
        have e36 := ar_ext (v := much) (h6 36 (by decide)) hs.1
        have e37 := ar_ext (v := uS μ 76) (h6 37 (by decide)) hs.1
        have e38 := ar_ext (v := -1) (h6 38 (by decide)) hs.1
        have e39 := ar_ext (v := is) (h6 39 (by decide)) hs.1
        simp only [sgJ, List.mem_cons, List.not_mem_nil, or_false] at hj
        rcases hj with rfl | rfl | rfl | rfl | rfl | rfl
        · exact fun z z1 z2 => e34 z z1 z2
        · exact fun z z1 z2 => e35 z z1 z2
        · exact fun z z1 z2 => e36 z z1 z2
        · exact fun z z1 z2 => e37 z z1 z2
        · exact fun z z1 z2 => e38 z z1 z2
        · exact fun z z1 z2 => e39 z z1 z2
    · simp only [if_neg q2, iI_lit, iI_add, iI_sub, iI_mul, iI_neg, Option.bind_some, if_true, if_false, Int.reduceEq, Int.reduceLE, Int.reduceLT, Int.reduceAdd, Int.reduceSub, Int.reduceMul, Int.reduceNeg, Nat.reduceEqDiff]
      exact ⟨fun _ => trivial, fun z => absurd z.2.1 q2⟩
end B9

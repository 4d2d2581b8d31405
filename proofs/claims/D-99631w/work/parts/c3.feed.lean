/-! LAYER 3: the model's tape -/
set_option maxRecDepth 100000
/-- the bytes of an int, the highest first -/
def byt (v : Int32) (k : Int) : Int := ((v >>> (iI k &&& iI 31)) &&& iI 255).toInt
theorem and255 (x : Int32) : 0 ≤ (x &&& iI 255).toInt ∧ (x &&& iI 255).toInt ≤ 255 := by
  have h : (x &&& iI 255).toInt = ((x.toBitVec &&& 255#32).toNat : Int) := by
    rw [show (x &&& iI 255).toInt = (x &&& iI 255).toBitVec.toInt from rfl, Int32.toBitVec_and, show (iI 255).toBitVec = 255#32 from rfl, BitVec.toInt_eq_toNat_of_lt]
    have : (x.toBitVec &&& 255#32).toNat ≤ 255 := by
      rw [BitVec.toNat_and]
      exact Nat.and_le_right
    omega
  have : (x.toBitVec &&& 255#32).toNat ≤ 255 := by
    rw [BitVec.toNat_and]
    exact Nat.and_le_right
  omega
theorem byt_b (v : Int32) (k : Int) : 0 ≤ byt v k ∧ byt v k ≤ 255 := and255 _
theorem byt_i (v : Int32) (k : Int) : (v >>> (iI k &&& iI 31)) &&& iI 255 = iI (byt v k) := iI_of _
def tap4 (f : Int → Int) (t : Int) (v : Int32) : Int → Int := upI (upI (upI (upI f t (byt v 24)) (t + 1) (byt v 16)) (t + 2) (byt v 8)) (t + 3) (byt v 0)
section C3
variable {s : mS}
theorem m_four {f : Int → Int} {t : Int} (h1 : s.1 1 = iI t) (h2 : ar s 1 1600 f) (h3 : 0 ≤ t) (h4 : t + 4 ≤ 1600) (v : Int32) : ∃ s', fm_four s v = some s' ∧ fr [1] [1] s s' ∧ s'.1 1 = iI (t + 4) ∧ ar s' 1 1600 (tap4 f t v) := by
  have turn : ∀ (u : mS) (g : Int → Int) (j k : Int), u.1 1 = iI j → ar u 1 1600 g → 0 ≤ j → j < 1600 → 0 ≤ k → k ≤ 24 → ∃ u', fm_four_b3 v (iI k, u) = some (.inl (iI (k + -8), u')) ∧ fr [1] [1] u u' ∧ u'.1 1 = iI (j + 1) ∧ ar u' 1 1600 (upI g j (byt v k)) := by
    intro u g j k e1 e2 j1 j2 k1 k2
    refine ⟨mSi (aw u 1 j.toNat (iI (byt v k))) 1 (iI (j + 1)), ?_, (fr.refl.aw rfl).si rfl, rfl, ar_aw e2 j1⟩
    simp (disch := omega) only [fm_four_b3, iI_lit, iI_add, iI_sub, iI_mul, iI_neg, Option.bind_some, if_true, if_false, Int.reduceEq, Int.reduceLE, Int.reduceLT, Int.reduceAdd, Int.reduceSub, Int.reduceMul, Int.reduceNeg, Nat.reduceEqDiff, iI_le, iI_lt, iI_eq, e1, byt_i, sto_w, pI, aw_1]
    rw [if_neg (by omega)]
  obtain ⟨u1, e1, f1, a1, b1⟩ := turn s f t 24 h1 h2 h3 (by omega) (by omega) (by omega)
  obtain ⟨u2, e2, f2, a2, b2⟩ := turn u1 _ (t + 1) 16 a1 b1 (by omega) (by omega) (by omega) (by omega)
  obtain ⟨u3, e3, f3, a3, b3⟩ := turn u2 _ (t + 2) 8 (by rw [a2]; congr 1; omega) (by exact b2) (by omega) (by omega) (by omega) (by omega)
  obtain ⟨u4, e4, f4, a4, b4⟩ := turn u3 _ (t + 3) 0 (by rw [a3]; congr 1; omega) (by exact b3) (by omega) (by omega) (by omega) (by omega)
  refine ⟨u4, ?_, ((f1.trans f2).trans f3).trans f4, by rw [a4]; congr 1; omega, b4⟩
  unfold fm_four
  rw [show (24 : Int32) = iI 24 from iI_lit 24, lp_back e1, show (24 : Int) + -8 = 16 from rfl, lp_back e2, show (16 : Int) + -8 = 8 from rfl, lp_back e3, show (8 : Int) + -8 = 0 from rfl, lp_back e4, lp_out (r := u4)]
  · rfl
  · simp (disch := omega) only [fm_four_b3, iI_lit, iI_add, iI_sub, iI_mul, iI_neg, Option.bind_some, if_true, if_false, Int.reduceEq, Int.reduceLE, Int.reduceLT, Int.reduceAdd, Int.reduceSub, Int.reduceMul, Int.reduceNeg, Nat.reduceEqDiff, iI_le, iI_lt, iI_eq]
def tap20 (f : Int → Int) (t : Int) (a b c d e : Int32) : Int → Int := tap4 (tap4 (tap4 (tap4 (tap4 f t a) (t + 4) b) (t + 8) c) (t + 12) d) (t + 16) e
def uFeed (μ : Mu) (a b c d e : Int32) : Mu := (uR μ, uX μ, upN (uS μ) 1 (uS μ 1 + 20), uW μ, uB μ, upR (uA μ) 1 (tap20 (uA μ 1) (uS μ 1) a b c d e))
theorem m_feed {μ : Mu} (h : MR μ s) (hw : wfM μ) (a b c d e : Int32) : (¬ uS μ 1 + 20 ≤ 1600 → fm_feed s a b c d e = some (iI (-1), s)) ∧ (uS μ 1 + 20 ≤ 1600 → ∃ s', fm_feed s a b c d e = some (iI (uS μ 1 + 20), s') ∧ MR (uFeed μ a b c d e) s') := by
  have a1 : s.1 1 = iI (uS μ 1) := h.2.2.1.1
  have hb := hw.2.2.1
  have ht := h.2.2.2.1
  unfold fm_feed
  simp (disch := omega) only [iI_lit, iI_add, iI_sub, iI_mul, iI_neg, Option.bind_some, if_true, if_false, Int.reduceEq, Int.reduceLE, Int.reduceLT, Int.reduceAdd, Int.reduceSub, Int.reduceMul, Int.reduceNeg, Nat.reduceEqDiff, iI_le, iI_lt, iI_eq, a1]
  by_cases q : uS μ 1 + 20 ≤ 1600
  · refine ⟨fun z => absurd q z, fun _ => ?_⟩
    rw [if_pos q]
    obtain ⟨u1, e1, f1, c1, b1⟩ := m_four a1 ht hb.1 (by omega) a
    obtain ⟨u2, e2, f2, c2, b2⟩ := m_four c1 b1 (by omega) (by omega) b
    obtain ⟨u3, e3, f3, c3, b3⟩ := m_four (t := uS μ 1 + 8) (by rw [c2]; congr 1; omega) b2 (by omega) (by omega) c
    obtain ⟨u4, e4, f4, c4, b4⟩ := m_four (t := uS μ 1 + 12) (by rw [c3]; congr 1; omega) b3 (by omega) (by omega) d
    obtain ⟨u5, e5, f5, c5, b5⟩ := m_four (t := uS μ 1 + 16) (by rw [c4]; congr 1; omega) b4 (by omega) (by omega) e
    have f : fr [1] [1] s u5 := (((f1.trans f2).trans f3).trans f4).trans f5
    have c5' : u5.1 1 = iI (uS μ 1 + 20) := by rw [c5]; congr 1; omega
    obtain ⟨hR, ha, ⟨-, g2, g3, g4, g5, g6, g7, g8⟩, h4, h5, h6, h7, h8, h9⟩ := h
    refine ⟨u5, ?_, hR.fr f rfl rfl, f.ar ha rfl, ⟨c5', by rw [f.s 2 rfl]; exact g2, by rw [f.s 3 rfl]; exact g3, by rw [f.s 57 rfl]; exact g4, by rw [f.s 58 rfl]; exact g5, by rw [f.s 61 rfl]; exact g6, by rw [f.s 75 rfl]; exact g7, by rw [f.s 76 rfl]; exact g8⟩, b5, f.ar h5 rfl, fun j hj => ?_, f.ar h7 rfl, by rw [f.a 24 rfl]; exact h8, by rw [f.a 44 rfl]; exact h9⟩
    · rw [e1, Option.bind_some, e2, Option.bind_some, e3, Option.bind_some, e4, Option.bind_some, e5, Option.bind_some, c5']
    · have hj2 := hj
      simp only [sgJ, List.mem_cons, List.not_mem_nil, or_false] at hj
      rcases hj with rfl | rfl | rfl | rfl | rfl | rfl <;> exact f.ar (h6 _ hj2) rfl
  · rw [if_neg q]
    exact ⟨fun _ => rfl, fun z => absurd z q⟩
end C3

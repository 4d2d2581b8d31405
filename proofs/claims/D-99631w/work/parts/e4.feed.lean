/-! LAYER 3, the component: the tape -/
set_option maxRecDepth 100000
theorem b255 : ∀ i : Fin 32, (255#32).getLsbD i.val = decide (i.val < 8) := by decide
theorem i8_and (x : Int32) : x.toInt8.toInt32 &&& iI 255 = x &&& iI 255 := by
  apply Int32.toBitVec_inj.mp
  rw [Int32.toBitVec_and, Int32.toBitVec_and, show (iI 255).toBitVec = 255#32 from rfl, Int8.toBitVec_toInt32, Int32.toBitVec_toInt8]
  apply BitVec.eq_of_getLsbD_eq
  intro i hi
  rw [BitVec.getLsbD_and, BitVec.getLsbD_and, b255 ⟨i, hi⟩]
  by_cases h : i < 8
  · rw [BitVec.getLsbD_signExtend, if_pos h, BitVec.getLsbD_signExtend, if_pos hi]
    simp [h, hi]
  · simp [h]
section E4
variable {G : ai_G} {O : Nat → Nat} {L : List Nat} {c d : Nat} {y y1 : yS} {μ : Mu} {X r : Nat} {bd ld : Nat → Nat} {K : Int → Nat} {sg : Nat → Nat}
def tpY (y : yS) (X : Nat) (t : Int) (f : Int → Int) : Prop := yf y X 5 = iI t ∧ ∀ z, 0 ≤ z → z < 1600 → ya y (X + 22) z.toNat &&& iI 255 = iI (f z)
theorem c_bytes (hS : xS O y X r) {f : Int → Int} {t : Int} (h : tpY y X t f) (h3 : 0 ≤ t) (h4 : t + 4 ≤ 1600) (v : Int32) : ∃ y', fy_B_bytes G y X v = some y' ∧ yF O [6, 205] 0 0 y y' ∧ tpY y' X (t + 4) (tap4 f t v) := by
  have turn : ∀ (u : yS) (g : Int → Int) (j k : Int), xS O u X r → tpY u X j g → 0 ≤ j → j < 1600 → 0 ≤ k → k ≤ 24 → ∃ u', fy_B_bytes_b3 G X v (iI k, u) = some (.inl (iI (k + -8), u')) ∧ yF O [6, 205] 0 0 u u' ∧ tpY u' X (j + 1) (upI g j (byt v k)) := by
    intro u g j k hu e1 j1 j2 k1 k2
    have e5 : gI 0 5 u X = some (iI j) := by rw [gI_ok hu.1.1, e1.1]
    have ew : ∀ w : Int32, wB u (X + 22) (iI j) w = some (yw u (X + 22) j.toNat w.toInt8.toInt32) := by
      intro w
      unfold wB
      rw [x_t22 hu]
      simp only
      rw [if_pos ⟨Or.inr trivial, inb_i j1 (by omega) (by omega)⟩, iI_clamp j1 (by omega)]
      rfl
    have e6 : ∀ w : Int32, gI 0 5 (yw u (X + 22) j.toNat w) X = some (iI j) := fun w => e5
    have e7 : ∀ (w z : Int32), wI 0 5 (yw u (X + 22) j.toNat w) X z = some (sF (yw u (X + 22) j.toNat w) X 5 z) := fun w z => x_wI hu rfl
    refine ⟨sF (yw u (X + 22) j.toNat ((v >>> (iI k &&& iI 31)).toInt8.toInt32).toInt8.toInt32) X 5 (iI (j + 1)), ?_, (yF.refl.w (by rw [x_o22 hu]; rfl)).sf (by rw [x_lb hu]; rfl), by rw [sF_get, if_pos ⟨rfl, rfl⟩], fun z z1 z2 => ?_⟩
    · simp (disch := omega) only [fy_B_bytes_b3, iI_lit, iI_add, iI_sub, iI_mul, iI_neg, obs, if_true, if_false, Int.reduceEq, Int.reduceLE, Int.reduceLT, Int.reduceAdd, Int.reduceSub, Int.reduceMul, Int.reduceNeg, Nat.reduceEqDiff, iI_le, iI_lt, iI_eq, x_3 hu, e5, ew, e6, e7]
      rw [if_neg (by omega)]
    · show ya (yw u (X + 22) j.toNat _) (X + 22) z.toNat &&& iI 255 = _
      rw [yw_get]
      unfold upI
      by_cases hz : z = j
      · rw [if_pos ⟨rfl, by rw [hz]⟩, if_pos hz, i8_and, i8_and, byt_i]
      · rw [if_neg (by omega), if_neg hz]
        exact e1.2 z z1 z2
  obtain ⟨u1, e1, f1, a1⟩ := turn y f t 24 hS h h3 (by omega) (by omega) (by omega)
  have S1 := hS.fr f1 rfl
  obtain ⟨u2, e2, f2, a2⟩ := turn u1 _ (t + 1) 16 S1 a1 (by omega) (by omega) (by omega) (by omega)
  have S2 := S1.fr f2 rfl
  obtain ⟨u3, e3, f3, a3⟩ := turn u2 _ (t + 2) 8 S2 (by rw [show t + 2 = t + 1 + 1 by omega]; exact a2) (by omega) (by omega) (by omega) (by omega)
  have S3 := S2.fr f3 rfl
  obtain ⟨u4, e4, f4, a4⟩ := turn u3 _ (t + 3) 0 S3 (by rw [show t + 3 = t + 2 + 1 by omega]; exact a3) (by omega) (by omega) (by omega) (by omega)
  refine ⟨u4, ?_, ((f1.t0 f2).t0 f3).t0 f4, by rw [show t + 4 = t + 3 + 1 by omega]; exact a4⟩
  unfold fy_B_bytes
  rw [show ((24, y) : Int32 × yS) = (iI 24, y) from rfl, lp_back e1, show (24 : Int) + -8 = 16 from rfl, lp_back e2, show (16 : Int) + -8 = 8 from rfl, lp_back e3, show (8 : Int) + -8 = 0 from rfl, lp_back e4, lp_out (r := u4)]
  · rfl
  · simp (disch := omega) only [fy_B_bytes_b3, iI_lit, iI_add, iI_sub, iI_mul, iI_neg, obs, if_true, if_false, Int.reduceEq, Int.reduceLE, Int.reduceLT, Int.reduceAdd, Int.reduceSub, Int.reduceMul, Int.reduceNeg, Nat.reduceEqDiff, iI_le, iI_lt, iI_eq]
theorem X_feed (h : XR G y μ X) (hw : wfM μ) (a b c d e : Int32) : (¬ uS μ 1 + 20 ≤ 1600 → fy_B_feed G y X a b c d e = some (iI (-1), y)) ∧ (uS μ 1 + 20 ≤ 1600 → ∃ y', fy_B_feed G y X a b c d e = some (iI (uS μ 1 + 20), y') ∧ XR G y' (uFeed μ a b c d e) X ∧ bnd y y') := by
  obtain ⟨O, r, bd, ld, K, sg, h⟩ := h
  have hb := hw.2.2.1
  obtain ⟨hS, hR, ⟨hN, hV⟩, hI, hT, hL, hW, hK, hB, hg⟩ := h
  unfold fy_B_feed
  simp (disch := omega) only [iI_lit, iI_add, iI_sub, iI_mul, iI_neg, obs, if_true, if_false, Int.reduceEq, Int.reduceLE, Int.reduceLT, Int.reduceAdd, Int.reduceSub, Int.reduceMul, Int.reduceNeg, Nat.reduceEqDiff, iI_le, iI_lt, iI_eq, x_i5 hS hI]
  by_cases q : uS μ 1 + 20 ≤ 1600
  rotate_left
  · exact ⟨fun _ => by rw [if_neg q], fun z => absurd z q⟩
  refine ⟨fun z => absurd q z, fun _ => ?_⟩
  rw [if_pos q]
  obtain ⟨u1, e1, f1, c1⟩ := c_bytes (G := G) hS (f := uA μ 1) (t := uS μ 1) ⟨hI.1, hT⟩ hb.1 (by omega) a
  have S1 := hS.fr f1 rfl
  obtain ⟨u2, e2, f2, c2⟩ := c_bytes (G := G) S1 c1 (by omega) (by omega) b
  have S2 := S1.fr f2 rfl
  obtain ⟨u3, e3, f3, c3⟩ := c_bytes (G := G) S2 (t := uS μ 1 + 8) (by rw [show uS μ 1 + 8 = uS μ 1 + 4 + 4 by omega]; exact c2) (by omega) (by omega) c
  have S3 := S2.fr f3 rfl
  obtain ⟨u4, e4, f4, c4⟩ := c_bytes (G := G) S3 (t := uS μ 1 + 12) (by rw [show uS μ 1 + 12 = uS μ 1 + 8 + 4 by omega]; exact c3) (by omega) (by omega) d
  have S4 := S3.fr f4 rfl
  obtain ⟨u5, e5, f5, c5⟩ := c_bytes (G := G) S4 (t := uS μ 1 + 16) (by rw [show uS μ 1 + 16 = uS μ 1 + 12 + 4 by omega]; exact c4) (by omega) (by omega) e
  have f := (((f1.t0 f2).t0 f3).t0 f4).t0 f5
  have S5 := S4.fr f5 rfl
  have c5' : tpY u5 X (uS μ 1 + 20) (tap20 (uA μ 1) (uS μ 1) a b c d e) := by rw [show uS μ 1 + 20 = uS μ 1 + 16 + 4 by omega]; exact c5
  refine ⟨u5, ?_, ?_, f.room (by omega) (by omega)⟩
  · rw [x_c hS, obs, e1, obs, x_c S1, obs, e2, obs, x_c S2, obs, e3, obs, x_c S3, obs, e4, obs, x_c S4, obs, e5, obs, gI_ok S5.1.1, obs, c5'.1]
  · exact ⟨O, r, bd, ld, K, sg, S5, hR.fr f rfl rfl, ⟨hN.fr f rfl, hV.fr hN f rfl rfl rfl⟩, ⟨c5'.1, (x_f0 hS f 6 rfl).trans hI.2.1, (x_f0 hS f 7 rfl).trans hI.2.2.1, (x_f0 hS f 8 rfl).trans hI.2.2.2.1, (x_f0 hS f 13 rfl).trans hI.2.2.2.2⟩, c5'.2, hL.fr hS f rfl, hW.fr hS f rfl, hK.fr f rfl, hB.fr hS f rfl, hg.fr f rfl⟩
end E4

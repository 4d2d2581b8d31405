/-! LAYER 3, the text: the component's tokens -/
set_option maxRecDepth 100000
theorem yt_sF {y : yS} {a b i : Nat} {v : Int32} : yt (sF y a i v) b = yt y b := rfl
theorem yt_sJ {y : yS} {a b i : Nat} {v : Int64} : yt (sJ y a i v) b = yt y b := rfl
theorem yt_sR {y : yS} {a b i : Nat} {v : Option Nat} : yt (sR y a i v) b = yt y b := rfl
theorem yt_sA {y : yS} {a b : Nat} {v : Nat → Int32} : yt (sA y a v) b = yt y b := rfl
theorem yf_sJ {y : yS} {a b i k : Nat} {v : Int64} : yf (sJ y a i v) b k = yf y b k := rfl
theorem yf_sR {y : yS} {a b i k : Nat} {v : Option Nat} : yf (sR y a i v) b k = yf y b k := rfl
theorem yf_sA {y : yS} {a b k : Nat} {v : Nat → Int32} : yf (sA y a v) b k = yf y b k := rfl
theorem yj_sF {y : yS} {a b i k : Nat} {v : Int32} : yj (sF y a i v) b k = yj y b k := rfl
theorem sJ_get {y : yS} {a k b j : Nat} {v : Int64} : yj (sJ y a k v) b j = if b = a ∧ j = k then v else yj y b j := by
  show va_up (yj y) a (vp_updL (yj y a) k v) b j = _
  unfold va_up
  by_cases h : b = a
  · subst h
    simp only [if_true, true_and, vp_updL]
  · simp only [if_neg h, h, false_and, if_false]
theorem wJ_ok {y : yS} {a k cc : Nat} {v : Int64} (h : yt y a = some (.inr cc)) : wJ cc k y a v = some (sJ y a k v) := if_pos h
theorem gJ_ok {y : yS} {a k cc : Nat} (h : yt y a = some (.inr cc)) : gJ cc k y a = some (yj y a k) := if_pos h
theorem gR_e {y : yS} {a k cc : Nat} (h : yt y a = some (.inr cc)) : gR cc k y a = yr y a k := if_pos h
/-- the reader at R: its text A, its fault F, its river r -/
def RB (T : Int → Int) (n : Int) (R A F r : Nat) (y : yS) : Prop := (yt y R = some (.inr 8) ∧ R < yn y) ∧ (yr y R 0 = some A ∧ yf y R 1 = iI n ∧ yr y R 2 = some F ∧ yr y R 3 = some r) ∧ (yt y A = some (.inl (2, 1600)) ∧ ∀ z, 0 ≤ z → z < 1600 → ya y A z.toNat &&& iI 255 = iI (T z)) ∧ yt y F = some (.inr 3)
/-- nothing but the reader's place and token has changed -/
def rdY (R : Nat) (y y' : yS) : Prop := (yt y' = yt y ∧ ya y' = ya y ∧ yr y' = yr y ∧ ye y' = ye y ∧ yn y' = yn y ∧ yu y' = yu y) ∧ (∀ a, ¬ a = R → yf y' a = yf y a ∧ yj y' a = yj y a) ∧ (∀ k, ¬ (4 ≤ k ∧ k ≤ 7) → yf y' R k = yf y R k)
def kdT (so : Int) : Int := if so = 0 then 0 else if so = 1 then 1 else if so = 2 then 2 else if so = 3 then 4 else 3
def CT (y : yS) (R : Nat) (τ : Tk) : Prop := yf y R 4 = iI (tP τ) ∧ (¬ tS τ = 3 → yf y R 5 = iI (tE τ)) ∧ yf y R 6 = iI (kdT (tS τ)) ∧ (tS τ = 2 → yf y R 7 = iI (tN τ)) ∧ (tS τ = 1 → yj y R 8 = tW τ)
section L2
variable {G : ai_G} {T : Int → Int} {n : Int} {R A F r : Nat} {y y1 y2 : yS} {p q : Int}
theorem rdY.refl : rdY R y y := ⟨⟨rfl, rfl, rfl, rfl, rfl, rfl⟩, fun _ _ => ⟨rfl, rfl⟩, fun _ _ => rfl⟩
theorem rdY.trans (a : rdY R y y1) (b : rdY R y1 y2) : rdY R y y2 := by
  obtain ⟨⟨a1, a2, a3, a4, a5, a6⟩, a7, a8⟩ := a
  obtain ⟨⟨b1, b2, b3, b4, b5, b6⟩, b7, b8⟩ := b
  exact ⟨⟨b1.trans a1, b2.trans a2, b3.trans a3, b4.trans a4, b5.trans a5, b6.trans a6⟩, fun q hq => ⟨(b7 q hq).1.trans (a7 q hq).1, (b7 q hq).2.trans (a7 q hq).2⟩, fun k hk => (b8 k hk).trans (a8 k hk)⟩
theorem rdY.sf {k : Nat} {v : Int32} (a : rdY R y y1) (h1 : 4 ≤ k) (h2 : k ≤ 7) : rdY R y (sF y1 R k v) := by
  obtain ⟨a1, a7, a8⟩ := a
  refine ⟨a1, fun q hq => ⟨?_, (a7 q hq).2⟩, fun j hj => ?_⟩
  · rw [← (a7 q hq).1]
    funext j
    rw [sF_get, if_neg (by omega)]
  · rw [sF_get, if_neg (by omega)]
    exact a8 j hj
theorem rdY.sj {k : Nat} {v : Int64} (a : rdY R y y1) : rdY R y (sJ y1 R k v) := by
  obtain ⟨a1, a7, a8⟩ := a
  refine ⟨a1, fun q hq => ⟨(a7 q hq).1, ?_⟩, a8⟩
  rw [← (a7 q hq).2]
  funext j
  rw [sJ_get, if_neg (by omega)]
theorem RB.rd (h : RB T n R A F r y) (a : rdY R y y1) : RB T n R A F r y1 := by
  obtain ⟨⟨a1, a2, a3, a4, a5, a6⟩, a7, a8⟩ := a
  obtain ⟨⟨h1, h2⟩, ⟨h3, h4, h5, h6⟩, ⟨h7, h8⟩, h9⟩ := h
  refine ⟨⟨by rw [a1]; exact h1, by omega⟩, ⟨by rw [a3]; exact h3, by rw [a8 1 (by omega)]; exact h4, by rw [a3]; exact h5, by rw [a3]; exact h6⟩, ⟨by rw [a1]; exact h7, by rw [a2]; exact h8⟩, by rw [a1]; exact h9⟩
def hs (T : Int → Int) (n k : Int) : Int := if k < n then T k else 0
theorem hs_b (hT : txO T n) (k : Int) : 0 ≤ hs T n k ∧ hs T n k ≤ 255 := by
  have := hT.2 k
  unfold hs
  split <;> omega
theorem c_sign (hT : txO T n) (h : RB T n R A F r y) {k : Int} (h0 : 0 ≤ k) (h1 : k ≤ 5000) : fy_Reader_sign G y R (iI k) = some (iI (hs T n k)) := by
  obtain ⟨⟨g1, g2⟩, ⟨g3, g4, g5, g6⟩, ⟨g7, g8⟩, g9⟩ := h
  have hn := hT.1
  simp (disch := omega) only [fy_Reader_sign, gI_ok g1, g4, gR_ok g1 g3, iI_lit, iI_add, iI_sub, iI_mul, iI_neg, obs, if_true, if_false, Int.reduceEq, Int.reduceLE, Int.reduceLT, Int.reduceAdd, Int.reduceSub, Int.reduceMul, Int.reduceNeg, Nat.reduceEqDiff, iI_le, iI_lt, iI_eq]
  unfold hs
  by_cases c : n ≤ k
  · rw [if_pos c, if_neg (by omega)]
  · rw [if_neg c, if_pos (by omega), aB_n 2 1600 g7 (Or.inr rfl) h0 (by omega) (by omega), obs, g8 k h0 (by omega)]
theorem c_isLt {c : Int} (h1 : -1 ≤ c) (h2 : c ≤ 255) : fy_Reader_isLetter (iI c) = some (if isLt c = true then 1 else 0) := m_isLt h1 h2
theorem c_isDg {c : Int} (h1 : -1 ≤ c) (h2 : c ≤ 255) : fy_Reader_isDigit (iI c) = some (if isDg c = true then 1 else 0) := m_isDg h1 h2
theorem c_isSg {c : Int} (h1 : -1 ≤ c) (h2 : c ≤ 255) : fy_Reader_isSign (iI c) = some (if isSg c = true then 1 else 0) := m_isSg h1 h2
theorem c_skip (hT : txO T n) (h : RB T n R A F r y) (h4 : yf y R 4 = iI p) (h0 : 0 ≤ p) (hp : p ≤ n) : ∃ u, lp (fy_Reader_next_b8 G R) y = some u ∧ (rdY R y u ∧ yf u R 4 = iI (rnE isBl T n p)) := by
  have hn := hT.1
  obtain ⟨⟨a1, a2⟩, a3, a4⟩ := rnE_ok (P := isBl) (T := T) hp
  generalize rnE isBl T n p = q at *
  refine lp_inv (fun i u => rdY R y u ∧ yf u R 4 = iI (p + i)) (q - p).toNat ?_ ?_ ⟨rdY.refl, by rw [h4]; congr 1; omega⟩
  · rintro i u hi ⟨g1, g2⟩
    left
    have hu := h.rd g1
    have e := c_sign (G := G) hT hu (k := p + i) (by omega) (by omega)
    have hb := isBl_t.mp (a3 (p + i) (by omega) (by omega))
    rw [show hs T n (p + i) = T (p + i) from if_pos (by omega)] at e
    have t0 := hu.1.1
    refine ⟨sF u R 4 (iI (p + i + 1)), ?_, g1.sf (by omega) (by omega), by rw [sF_get, if_pos ⟨rfl, rfl⟩]; congr 1; omega⟩
    simp (disch := omega) only [fy_Reader_next_b8, fy_Reader_next_j45, gI_ok t0, ck_ok t0, wI_ok t0, g2, hu.2.1.2.1, e, iI_lit, iI_add, iI_sub, iI_mul, iI_neg, obs, if_true, if_false, Int.reduceEq, Int.reduceLE, Int.reduceLT, Int.reduceAdd, Int.reduceSub, Int.reduceMul, Int.reduceNeg, Nat.reduceEqDiff, iI_le, iI_lt, iI_eq]
    rw [if_neg (by omega)]
    rcases hb with hb | hb
    · rw [hb]; rfl
    · rw [hb]; rfl
  · rintro u ⟨g1, g2⟩
    have hu := h.rd g1
    have hz : p + ((q - p).toNat : Int) = q := by omega
    rw [hz] at g2
    have e := c_sign (G := G) hT hu (k := q) (by omega) (by omega)
    have t0 := hu.1.1
    refine ⟨u, ?_, g1, g2⟩
    simp (disch := omega) only [fy_Reader_next_b8, gI_ok t0, ck_ok t0, g2, hu.2.1.2.1, e, iI_lit, iI_add, iI_sub, iI_mul, iI_neg, obs, if_true, if_false, Int.reduceEq, Int.reduceLE, Int.reduceLT, Int.reduceAdd, Int.reduceSub, Int.reduceMul, Int.reduceNeg, Nat.reduceEqDiff, iI_le, iI_lt, iI_eq]
    by_cases d : n ≤ q
    · rw [if_pos d]
    · have hb := hs_b hT q
      have h1 : ¬ (hs T n q = 32 ∨ hs T n q = 10) := by
        intro c
        apply a4
        unfold hs at c
        rw [if_pos (by omega)] at c
        exact ⟨by omega, isBl_t.mpr c⟩
      simp (disch := omega) only [iI_le, iI_lt, iI_eq]
      rw [if_neg d, if_neg (by omega), if_neg (by omega)]
theorem c_wordL (hT : txO T n) (h : RB T n R A F r y) (h4 : yf y R 4 = iI p) (h5 : yf y R 5 = iI p) (hw : yj y R 8 = 0) (h0 : 0 ≤ p) (hp : p ≤ n) : ∃ u, lp (fy_Reader_readWord_b18 G R) y = some u ∧ (rdY R y u ∧ yf u R 4 = iI p ∧ yf u R 6 = yf y R 6 ∧ yf u R 5 = iI (rnE isLt T n p) ∧ (rnE isLt T n p - p ≤ 8 → yj u R 8 = wv T p (rnE isLt T n p - p).toNat)) := by
  have hn := hT.1
  obtain ⟨⟨a1, a2⟩, a3, a4⟩ := rnE_ok (P := isLt) (T := T) hp
  generalize rnE isLt T n p = q at *
  refine lp_inv (fun i u => rdY R y u ∧ yf u R 4 = iI p ∧ yf u R 6 = yf y R 6 ∧ yf u R 5 = iI (p + i) ∧ (i ≤ 8 → yj u R 8 = wv T p i)) (q - p).toNat ?_ ?_ ⟨rdY.refl, h4, rfl, by rw [h5]; congr 1; omega, fun _ => hw⟩
  · rintro i u hi ⟨g1, g2, g6, g3, g4⟩
    left
    have hu := h.rd g1
    have e := c_sign (G := G) hT hu (k := p + i) (by omega) (by omega)
    have hb := a3 (p + i) (by omega) (by omega)
    have hc := isLt_t.mp hb
    rw [show hs T n (p + i) = T (p + i) from if_pos (by omega)] at e
    have el := c_isLt (c := T (p + i)) (by omega) (by omega)
    rw [if_pos hb] at el
    have t0 := hu.1.1
    by_cases c8 : 8 ≤ (i : Int)
    · refine ⟨sF (sJ u R 8 (yj u R 8)) R 5 (iI (p + i + 1)), ?_, (g1.sj).sf (by omega) (by omega), ?_, ?_, ?_, fun z => by omega⟩
      · have tj : yt (sJ u R 8 (yj u R 8)) R = some (.inr 8) := t0
        have ej : yf (sJ u R 8 (yj u R 8)) R 5 = iI (p + i) := g3
        simp (disch := omega) only [fy_Reader_readWord_b18, fy_Reader_readWord_j71, gI_ok t0, ck_ok t0, gJ_ok t0, wJ_ok t0, gI_ok tj, wI_ok tj, ej, g2, g3, e, el, iI_lit, iI_add, iI_sub, iI_mul, iI_neg, obs, if_true, if_false, Int.reduceEq, Int.reduceLE, Int.reduceLT, Int.reduceAdd, Int.reduceSub, Int.reduceMul, Int.reduceNeg, Nat.reduceEqDiff, iI_le, iI_lt, iI_eq, show ¬ iI 1 = iI 0 by decide]
        rw [if_pos (by omega)]
      · rw [sF_get, if_neg (by omega)]; exact g2
      · rw [sF_get, if_neg (by omega)]; exact g6
      · rw [sF_get, if_pos ⟨rfl, rfl⟩]; congr 1; omega
    · refine ⟨sF (sJ u R 8 (wv T p (i + 1))) R 5 (iI (p + i + 1)), ?_, (g1.sj).sf (by omega) (by omega), ?_, ?_, ?_, fun z => ?_⟩
      · have tj : yt (sJ u R 8 (wv T p (i + 1))) R = some (.inr 8) := t0
        have ej : yf (sJ u R 8 (wv T p (i + 1))) R 5 = iI (p + i) := g3
        have ew : fy_Reader_readWord_b18 G R u = fy_Reader_readWord_j71 G u R R ((yj u R 8 <<< (Int32.toInt64 8 &&& 63)) ||| (Int32.toInt64 (iI (T (p + i))))) := by
          simp (disch := omega) only [fy_Reader_readWord_b18, gI_ok t0, ck_ok t0, gJ_ok t0, g2, g3, e, el, obs, iI_sub, i0, i1, iI_le, iI_lt, iI_eq, show ¬ iI 1 = iI 0 by decide, if_false, show (8 : Int32) = iI 8 from rfl]
          rw [if_neg (show ¬ (8 : Int) ≤ p + i - p by omega)]
        rw [ew, g4 (by omega)]
        show fy_Reader_readWord_j71 G u R R (wv T p (i + 1)) = _
        simp (disch := omega) only [fy_Reader_readWord_j71, wJ_ok t0, gI_ok tj, wI_ok tj, ej, iI_lit, iI_add, iI_sub, iI_mul, iI_neg, obs, if_true, if_false, Int.reduceEq, Int.reduceLE, Int.reduceLT, Int.reduceAdd, Int.reduceSub, Int.reduceMul, Int.reduceNeg, Nat.reduceEqDiff]
      · rw [sF_get, if_neg (by omega)]; exact g2
      · rw [sF_get, if_neg (by omega)]; exact g6
      · rw [sF_get, if_pos ⟨rfl, rfl⟩]; congr 1; omega
      · show yj (sJ u R 8 (wv T p (i + 1))) R 8 = _
        rw [sJ_get, if_pos ⟨rfl, rfl⟩]
  · rintro u ⟨g1, g2, g6, g3, g4⟩
    have hu := h.rd g1
    have hz : p + ((q - p).toNat : Int) = q := by omega
    rw [hz] at g3
    have e := c_sign (G := G) hT hu (k := q) (by omega) (by omega)
    have hb := hs_b hT q
    have h1 : ¬ isLt (hs T n q) = true := by
      intro c
      apply a4
      unfold hs at c
      by_cases d : q < n
      · rw [if_pos d] at c
        exact ⟨d, c⟩
      · rw [if_neg d] at c; exact absurd c (by decide)
    have el := c_isLt (c := hs T n q) (by omega) (by omega)
    rw [if_neg h1] at el
    have t0 := hu.1.1
    refine ⟨u, ?_, g1, g2, g6, g3, fun z => g4 (by omega)⟩
    simp (disch := omega) only [fy_Reader_readWord_b18, gI_ok t0, ck_ok t0, g3, e, el, iI_lit, iI_add, iI_sub, iI_mul, iI_neg, obs, if_true, if_false, Int.reduceEq, Int.reduceLE, Int.reduceLT, Int.reduceAdd, Int.reduceSub, Int.reduceMul, Int.reduceNeg, Nat.reduceEqDiff]
theorem c_numL (hT : txO T n) (h : RB T n R A F r y) (h4 : yf y R 4 = iI p) (h5 : yf y R 5 = iI p) (hw : yf y R 7 = iI 0) (h0 : 0 ≤ p) (hp : p ≤ n) : ∃ u, lp (fy_Reader_readNumber_b18 G R) y = some u ∧ (rdY R y u ∧ yf u R 4 = iI p ∧ yf u R 6 = yf y R 6 ∧ yf u R 5 = iI (rnE isDg T n p) ∧ (rnE isDg T n p - p ≤ 4 → yf u R 7 = iI (nv T p (rnE isDg T n p - p).toNat))) := by
  have hn := hT.1
  obtain ⟨⟨a1, a2⟩, a3, a4⟩ := rnE_ok (P := isDg) (T := T) hp
  generalize rnE isDg T n p = q at *
  refine lp_inv (fun i u => rdY R y u ∧ yf u R 4 = iI p ∧ yf u R 6 = yf y R 6 ∧ yf u R 5 = iI (p + i) ∧ (i ≤ 4 → yf u R 7 = iI (nv T p i))) (q - p).toNat ?_ ?_ ⟨rdY.refl, h4, rfl, by rw [h5]; congr 1; omega, fun _ => hw⟩
  · rintro i u hi ⟨g1, g2, g6, g3, g4⟩
    left
    have hu := h.rd g1
    have e := c_sign (G := G) hT hu (k := p + i) (by omega) (by omega)
    have hb := a3 (p + i) (by omega) (by omega)
    have hc := isDg_t.mp hb
    rw [show hs T n (p + i) = T (p + i) from if_pos (by omega)] at e
    have el := c_isDg (c := T (p + i)) (by omega) (by omega)
    rw [if_pos hb] at el
    have t0 := hu.1.1
    have key : ∀ w : Int32, fy_Reader_readNumber_j72 G u R R w = some (.inl (sF (sF u R 7 w) R 5 (iI (p + i + 1)))) := by
      intro w
      have tj : yt (sF u R 7 w) R = some (.inr 8) := t0
      have ej : yf (sF u R 7 w) R 5 = iI (p + i) := by rw [sF_get, if_neg (by omega)]; exact g3
      simp (disch := omega) only [fy_Reader_readNumber_j72, wI_ok t0, gI_ok tj, wI_ok tj, ej, iI_lit, iI_add, iI_sub, iI_mul, iI_neg, obs, if_true, if_false, Int.reduceEq, Int.reduceLE, Int.reduceLT, Int.reduceAdd, Int.reduceSub, Int.reduceMul, Int.reduceNeg, Nat.reduceEqDiff]
    have cnt : ∀ w : Int32, (i + 1 ≤ 4 → w = iI (nv T p (i + 1))) → rdY R y (sF (sF u R 7 w) R 5 (iI (p + i + 1))) ∧ yf (sF (sF u R 7 w) R 5 (iI (p + i + 1))) R 4 = iI p ∧ yf (sF (sF u R 7 w) R 5 (iI (p + i + 1))) R 6 = yf y R 6 ∧ yf (sF (sF u R 7 w) R 5 (iI (p + i + 1))) R 5 = iI (p + (i + 1 : Nat)) ∧ (i + 1 ≤ 4 → yf (sF (sF u R 7 w) R 5 (iI (p + i + 1))) R 7 = iI (nv T p (i + 1))) := by
      intro w hw
      refine ⟨(g1.sf (by omega) (by omega)).sf (by omega) (by omega), ?_, ?_, ?_, fun z => ?_⟩
      · rw [sF_get, if_neg (by omega), sF_get, if_neg (by omega)]; exact g2
      · rw [sF_get, if_neg (by omega), sF_get, if_neg (by omega)]; exact g6
      · rw [sF_get, if_pos ⟨rfl, rfl⟩]; congr 1; omega
      · rw [sF_get, if_neg (by omega), sF_get, if_pos ⟨rfl, rfl⟩]; exact hw z
    by_cases c8 : 4 ≤ (i : Int)
    · refine ⟨_, ?_, cnt (yf u R 7) (fun z => by omega)⟩
      rw [← key]
      simp (disch := omega) only [fy_Reader_readNumber_b18, gI_ok t0, ck_ok t0, g2, g3, e, el, iI_lit, iI_add, iI_sub, iI_mul, iI_neg, obs, if_true, if_false, Int.reduceEq, Int.reduceLE, Int.reduceLT, Int.reduceAdd, Int.reduceSub, Int.reduceMul, Int.reduceNeg, Nat.reduceEqDiff, iI_le, iI_lt, iI_eq, show ¬ iI 1 = iI 0 by decide]
      rw [if_pos (by omega)]
    · refine ⟨_, ?_, cnt (iI (nv T p (i + 1))) (fun z => rfl)⟩
      rw [← key]
      simp (disch := omega) only [fy_Reader_readNumber_b18, gI_ok t0, ck_ok t0, g2, g3, g4 (by omega), e, el, iI_lit, iI_add, iI_sub, iI_mul, iI_neg, obs, if_true, if_false, Int.reduceEq, Int.reduceLE, Int.reduceLT, Int.reduceAdd, Int.reduceSub, Int.reduceMul, Int.reduceNeg, Nat.reduceEqDiff, iI_le, iI_lt, iI_eq, show ¬ iI 1 = iI 0 by decide, nv]
      rw [if_neg (by omega)]
  · rintro u ⟨g1, g2, g6, g3, g4⟩
    have hu := h.rd g1
    have hz : p + ((q - p).toNat : Int) = q := by omega
    rw [hz] at g3
    have e := c_sign (G := G) hT hu (k := q) (by omega) (by omega)
    have hb := hs_b hT q
    have h1 : ¬ isDg (hs T n q) = true := by
      intro c
      apply a4
      unfold hs at c
      by_cases d : q < n
      · rw [if_pos d] at c
        exact ⟨d, c⟩
      · rw [if_neg d] at c; exact absurd c (by decide)
    have el := c_isDg (c := hs T n q) (by omega) (by omega)
    rw [if_neg h1] at el
    have t0 := hu.1.1
    refine ⟨u, ?_, g1, g2, g6, g3, fun z => g4 (by omega)⟩
    simp (disch := omega) only [fy_Reader_readNumber_b18, gI_ok t0, ck_ok t0, g3, e, el, iI_lit, iI_add, iI_sub, iI_mul, iI_neg, obs, if_true, if_false, Int.reduceEq, Int.reduceLE, Int.reduceLT, Int.reduceAdd, Int.reduceSub, Int.reduceMul, Int.reduceNeg, Nat.reduceEqDiff]
end L2

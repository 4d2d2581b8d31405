/-! LAYER 3, the text: the model's tokens -/
set_option maxRecDepth 100000
def txO (T : Int → Int) (n : Int) : Prop := (0 ≤ n ∧ n ≤ 1600) ∧ ∀ z, 0 ≤ T z ∧ T z ≤ 255
/-- the model's text; its token -/
def MX (T : Int → Int) (n : Int) (s : mS) : Prop := s.1 5 = iI n ∧ ar s 1 1600 T
def MT (s : mS) (τ : Tk) : Prop := s.1 6 = iI (tS τ) ∧ s.1 7 = iI (tP τ) ∧ (¬ tS τ = 3 → s.1 4 = iI (tE τ)) ∧ (tS τ = 2 → s.1 8 = iI (tN τ)) ∧ (tS τ = 1 → s.2.1 = tW τ)
theorem m_isLt {c : Int} (h1 : -1 ≤ c) (h2 : c ≤ 255) : fm_isLetter (iI c) = some (if isLt c = true then 1 else 0) := by
  simp (disch := omega) only [fm_isLetter, iI_lit, iI_add, iI_sub, iI_mul, iI_neg, obs, if_true, if_false, Int.reduceEq, Int.reduceLE, Int.reduceLT, Int.reduceAdd, Int.reduceSub, Int.reduceMul, Int.reduceNeg, Nat.reduceEqDiff, iI_le, iI_lt, iI_eq]
  by_cases a : c < 97
  · rw [if_pos a, if_neg (by rw [isLt_t]; omega)]
  · rw [if_neg a]
    by_cases b : 122 < c
    · rw [if_pos b, if_neg (by rw [isLt_t]; omega)]
    · rw [if_neg b, if_pos (by rw [isLt_t]; omega)]
theorem m_isDg {c : Int} (h1 : -1 ≤ c) (h2 : c ≤ 255) : fm_isDigit (iI c) = some (if isDg c = true then 1 else 0) := by
  simp (disch := omega) only [fm_isDigit, iI_lit, iI_add, iI_sub, iI_mul, iI_neg, obs, if_true, if_false, Int.reduceEq, Int.reduceLE, Int.reduceLT, Int.reduceAdd, Int.reduceSub, Int.reduceMul, Int.reduceNeg, Nat.reduceEqDiff, iI_le, iI_lt, iI_eq]
  by_cases a : c < 48
  · rw [if_pos a, if_neg (by rw [isDg_t]; omega)]
  · rw [if_neg a]
    by_cases b : 57 < c
    · rw [if_pos b, if_neg (by rw [isDg_t]; omega)]
    · rw [if_neg b, if_pos (by rw [isDg_t]; omega)]
theorem m_isSg {c : Int} (h1 : -1 ≤ c) (h2 : c ≤ 255) : fm_isSign (iI c) = some (if isSg c = true then 1 else 0) := by
  simp (disch := omega) only [fm_isSign, iI_lit, iI_add, iI_sub, iI_mul, iI_neg, obs, if_true, if_false, Int.reduceEq, Int.reduceLE, Int.reduceLT, Int.reduceAdd, Int.reduceSub, Int.reduceMul, Int.reduceNeg, Nat.reduceEqDiff, iI_le, iI_lt, iI_eq]
  by_cases a : isSg c = true
  · rw [if_pos a]
    rcases isSg_t.mp a with rfl | rfl | rfl | rfl | rfl | rfl | rfl | rfl | rfl | rfl | rfl <;> rfl
  · rw [if_neg a]
    rw [isSg_t] at a
    simp only [if_neg (show ¬ c = 59 by omega), if_neg (show ¬ c = 40 by omega), if_neg (show ¬ c = 41 by omega), if_neg (show ¬ c = 60 by omega), if_neg (show ¬ c = 62 by omega), if_neg (show ¬ c = 61 by omega), if_neg (show ¬ c = 43 by omega), if_neg (show ¬ c = 45 by omega), if_neg (show ¬ c = 42 by omega), if_neg (show ¬ c = 47 by omega), if_neg (show ¬ c = 37 by omega)]
section L1
variable {T : Int → Int} {n : Int} {s u : mS} {p q : Int}
def hr (T : Int → Int) (n k : Int) : Int := if k < n then T k else -1
theorem hr_b (hT : txO T n) (k : Int) : -1 ≤ hr T n k ∧ hr T n k ≤ 255 := by
  have := hT.2 k
  unfold hr
  split <;> omega
theorem MX.fr {K J : List Nat} (h : MX T n s) (f : fr K J s u) (h5 : K.contains 5 = false) (h1 : J.contains 1 = false) : MX T n u := ⟨by rw [f.s 5 h5]; exact h.1, f.ar h.2 h1⟩
theorem m_here (hT : txO T n) (h : MX T n s) {k : Int} (h4 : s.1 4 = iI p) (h0 : 0 ≤ p + k) (h1 : p + k ≤ 5000) : fm_here s (iI k) = some (iI (hr T n (p + k))) := by
  obtain ⟨h5, ht⟩ := h
  have hn := hT.1
  simp (disch := omega) only [fm_here, h5, h4, iI_lit, iI_add, iI_sub, iI_mul, iI_neg, obs, if_true, if_false, Int.reduceEq, Int.reduceLE, Int.reduceLT, Int.reduceAdd, Int.reduceSub, Int.reduceMul, Int.reduceNeg, Nat.reduceEqDiff, iI_le, iI_lt, iI_eq]
  unfold hr
  by_cases c : n ≤ p + k
  · rw [if_pos c, if_neg (by omega)]
  · rw [if_neg c, if_pos (by omega), ld_i h0 (by omega) (by omega), obs, ht _ h0 (by omega)]
theorem m_skip (hT : txO T n) (h : MX T n s) (h4 : s.1 4 = iI p) (h0 : 0 ≤ p) (hp : p ≤ n) : ∃ u, lp fm_token_b0 s = some u ∧ (u.1 4 = iI (rnE isBl T n p) ∧ fr [4] [] s u) := by
  have hn := hT.1
  obtain ⟨⟨a1, a2⟩, a3, a4⟩ := rnE_ok (P := isBl) (T := T) hp
  generalize rnE isBl T n p = q at *
  refine lp_inv (fun i u => u.1 4 = iI (p + i) ∧ fr [4] [] s u) (q - p).toNat ?_ ?_ ⟨by rw [h4]; congr 1; omega, fr.refl⟩
  · rintro i u hi ⟨g1, g2⟩
    left
    have e := m_here (k := 0) hT (h.fr g2 rfl rfl) g1 (by omega) (by omega)
    have hb := isBl_t.mp (a3 (p + i) (by omega) (by omega))
    have eh : hr T n (p + i + 0) = T (p + i) := by unfold hr; rw [Int.add_zero, if_pos (by omega)]
    rw [eh] at e
    refine ⟨mSi u 4 (iI (p + i + 1)), ?_, by rw [si_eq]; congr 1; omega, g2.si rfl⟩
    simp (disch := omega) only [fm_token_b0, fm_token_j20, pI, iI_lit, iI_add, iI_sub, iI_mul, iI_neg, obs, if_true, if_false, Int.reduceEq, Int.reduceLE, Int.reduceLT, Int.reduceAdd, Int.reduceSub, Int.reduceMul, Int.reduceNeg, Nat.reduceEqDiff, e, g1]
    rcases hb with hb | hb
    · rw [hb]; rfl
    · rw [hb]; rfl
  · rintro u ⟨g1, g2⟩
    have e := m_here (k := 0) hT (h.fr g2 rfl rfl) g1 (by omega) (by omega)
    have hz : p + ((q - p).toNat : Int) = q := by omega
    rw [hz] at g1
    rw [hz, Int.add_zero] at e
    refine ⟨u, ?_, g1, g2⟩
    have hb := hr_b hT q
    have h1 : ¬ (hr T n q = 32 ∨ hr T n q = 10) := by
      intro c
      apply a4
      unfold hr at c
      by_cases d : q < n
      · rw [if_pos d] at c
        exact ⟨d, isBl_t.mpr c⟩
      · rw [if_neg d] at c; omega
    simp (disch := omega) only [fm_token_b0, iI_lit, iI_add, iI_sub, iI_mul, iI_neg, obs, if_true, if_false, Int.reduceEq, Int.reduceLE, Int.reduceLT, Int.reduceAdd, Int.reduceSub, Int.reduceMul, Int.reduceNeg, Nat.reduceEqDiff, iI_le, iI_lt, iI_eq, e]
    rw [if_neg (by omega), if_neg (by omega)]
theorem m_wordL (hT : txO T n) (h : MX T n s) (h4 : s.1 4 = iI p) (hw : s.2.1 = 0) (h0 : 0 ≤ p) (hp : p ≤ n) : ∃ r, lp fm_token_b78 (iI 0, s) = some r ∧ (r.1 = iI (rnE isLt T n p - p) ∧ fr [100] [] s r.2 ∧ (rnE isLt T n p - p ≤ 8 → r.2.2.1 = wv T p (rnE isLt T n p - p).toNat)) := by
  have hn := hT.1
  obtain ⟨⟨a1, a2⟩, a3, a4⟩ := rnE_ok (P := isLt) (T := T) hp
  generalize rnE isLt T n p = q at *
  refine lp_inv (fun i r => r.1 = iI i ∧ fr [100] [] s r.2 ∧ (i ≤ 8 → r.2.2.1 = wv T p i)) (q - p).toNat ?_ ?_ ⟨rfl, fr.refl, fun _ => hw⟩
  · rintro i ⟨k, u⟩ hi ⟨g1, g2, g3⟩
    simp only at g1 g2 g3
    subst g1
    left
    have e := m_here (k := i) (p := p) hT (h.fr g2 rfl rfl) (by rw [g2.s 4 rfl]; exact h4) (by omega) (by omega)
    have hb := a3 (p + i) (by omega) (by omega)
    have eh : hr T n (p + i) = T (p + i) := by unfold hr; rw [if_pos (by omega)]
    have hc := isLt_t.mp hb
    rw [eh] at e
    have el := m_isLt (c := T (p + i)) (by omega) (by omega)
    rw [if_pos hb] at el
    by_cases c8 : 8 ≤ (i : Int)
    · refine ⟨(iI ((i : Int) + 1), u), ?_, by congr 1, g2, fun z => by omega⟩
      simp (disch := omega) only [fm_token_b78, iI_lit, iI_add, iI_sub, iI_mul, iI_neg, obs, if_true, if_false, Int.reduceEq, Int.reduceLE, Int.reduceLT, Int.reduceAdd, Int.reduceSub, Int.reduceMul, Int.reduceNeg, Nat.reduceEqDiff, iI_le, iI_lt, iI_eq, e, el, if_pos c8, show ¬ iI 1 = iI 0 by decide]
    · refine ⟨(iI ((i : Int) + 1), mSw u (wv T p (i + 1))), ?_, by congr 1, g2.sw rfl, fun _ => rfl⟩
      have ew : fm_token_b78 (iI i, u) = (pW u ((u.2.1 <<< (Int32.toInt64 8 &&& 63)) ||| (Int32.toInt64 (iI (T (p + i)))))).bind fun s110 => some (.inl (iI ((i : Int) + 1), s110)) := by
        simp (disch := omega) only [fm_token_b78, iI_le, iI_lt, iI_eq, e, el, iI_lit, iI_add, obs, if_false, if_neg c8, show ¬ iI 1 = iI 0 by decide]
      rw [ew, g3 (by omega)]
      rfl
  · rintro ⟨k, u⟩ ⟨g1, g2, g3⟩
    simp only at g1 g2 g3
    subst g1
    have hz : (((q - p).toNat : Nat) : Int) = q - p := by omega
    have e := m_here (k := q - p) (p := p) hT (h.fr g2 rfl rfl) (by rw [g2.s 4 rfl]; exact h4) (by omega) (by omega)
    rw [show p + (q - p) = q by omega] at e
    have hb := hr_b hT q
    have h1 : ¬ isLt (hr T n q) = true := by
      intro c
      apply a4
      unfold hr at c
      by_cases d : q < n
      · rw [if_pos d] at c
        exact ⟨d, c⟩
      · rw [if_neg d] at c; exact absurd c (by decide)
    have el := m_isLt (c := hr T n q) (by omega) (by omega)
    rw [if_neg h1] at el
    refine ⟨(iI (q - p), u), ?_, rfl, g2, fun z => g3 (by omega)⟩
    simp (disch := omega) only [fm_token_b78, hz, e, el, iI_lit, iI_add, iI_sub, iI_mul, iI_neg, obs, if_true, if_false, Int.reduceEq, Int.reduceLE, Int.reduceLT, Int.reduceAdd, Int.reduceSub, Int.reduceMul, Int.reduceNeg, Nat.reduceEqDiff]
theorem m_numL (hT : txO T n) (h : MX T n s) (h4 : s.1 4 = iI p) (hw : s.1 8 = iI 0) (h0 : 0 ≤ p) (hp : p ≤ n) : ∃ r, lp fm_token_b144 (iI 0, s) = some r ∧ (r.1 = iI (rnE isDg T n p - p) ∧ fr [8] [] s r.2 ∧ (rnE isDg T n p - p ≤ 4 → r.2.1 8 = iI (nv T p (rnE isDg T n p - p).toNat))) := by
  have hn := hT.1
  obtain ⟨⟨a1, a2⟩, a3, a4⟩ := rnE_ok (P := isDg) (T := T) hp
  generalize rnE isDg T n p = q at *
  refine lp_inv (fun i r => r.1 = iI i ∧ fr [8] [] s r.2 ∧ (i ≤ 4 → r.2.1 8 = iI (nv T p i))) (q - p).toNat ?_ ?_ ⟨rfl, fr.refl, fun _ => hw⟩
  · rintro i ⟨k, u⟩ hi ⟨g1, g2, g3⟩
    simp only at g1 g2 g3
    subst g1
    left
    have e := m_here (k := i) (p := p) hT (h.fr g2 rfl rfl) (by rw [g2.s 4 rfl]; exact h4) (by omega) (by omega)
    have hb := a3 (p + i) (by omega) (by omega)
    have eh : hr T n (p + i) = T (p + i) := by unfold hr; rw [if_pos (by omega)]
    have hc := isDg_t.mp hb
    rw [eh] at e
    have el := m_isDg (c := T (p + i)) (by omega) (by omega)
    rw [if_pos hb] at el
    by_cases c8 : 4 ≤ (i : Int)
    · refine ⟨(iI ((i : Int) + 1), u), ?_, by congr 1, g2, fun z => by omega⟩
      simp (disch := omega) only [fm_token_b144, iI_lit, iI_add, iI_sub, iI_mul, iI_neg, obs, if_true, if_false, Int.reduceEq, Int.reduceLE, Int.reduceLT, Int.reduceAdd, Int.reduceSub, Int.reduceMul, Int.reduceNeg, Nat.reduceEqDiff, iI_le, iI_lt, iI_eq, e, el, if_pos c8, show ¬ iI 1 = iI 0 by decide]
    · refine ⟨(iI ((i : Int) + 1), mSi u 8 (iI (nv T p (i + 1)))), ?_, by congr 1, g2.si rfl, fun _ => rfl⟩
      simp (disch := omega) only [fm_token_b144, iI_lit, iI_add, iI_sub, iI_mul, iI_neg, obs, if_true, if_false, Int.reduceEq, Int.reduceLE, Int.reduceLT, Int.reduceAdd, Int.reduceSub, Int.reduceMul, Int.reduceNeg, Nat.reduceEqDiff, iI_le, iI_lt, iI_eq, e, el, if_neg c8, g3 (by omega), pI, nv, show ¬ iI 1 = iI 0 by decide]
  · rintro ⟨k, u⟩ ⟨g1, g2, g3⟩
    simp only at g1 g2 g3
    subst g1
    have hz : (((q - p).toNat : Nat) : Int) = q - p := by omega
    have e := m_here (k := q - p) (p := p) hT (h.fr g2 rfl rfl) (by rw [g2.s 4 rfl]; exact h4) (by omega) (by omega)
    rw [show p + (q - p) = q by omega] at e
    have hb := hr_b hT q
    have h1 : ¬ isDg (hr T n q) = true := by
      intro c
      apply a4
      unfold hr at c
      by_cases d : q < n
      · rw [if_pos d] at c
        exact ⟨d, c⟩
      · rw [if_neg d] at c; exact absurd c (by decide)
    have el := m_isDg (c := hr T n q) (by omega) (by omega)
    rw [if_neg h1] at el
    refine ⟨(iI (q - p), u), ?_, rfl, g2, fun z => g3 (by omega)⟩
    simp (disch := omega) only [fm_token_b144, hz, e, el, iI_lit, iI_add, iI_sub, iI_mul, iI_neg, obs, if_true, if_false, Int.reduceEq, Int.reduceLE, Int.reduceLT, Int.reduceAdd, Int.reduceSub, Int.reduceMul, Int.reduceNeg, Nat.reduceEqDiff]
/-- the token's end is gone to -/
theorem m_tokEnd {so k : Int} (h4 : u.1 4 = iI q) (hs : -1000 ≤ so ∧ so ≤ 1000) : ∃ s', fm_token_j232 (mSi u 6 (iI so)) (iI k) = some s' ∧ s'.1 6 = iI so ∧ (¬ so = 3 → s'.1 4 = iI (q + k)) ∧ fr [4, 6] [] u s' := by
  by_cases c : so = 3
  · refine ⟨mSi u 6 (iI so), ?_, si_eq, fun z => absurd c z, fr.refl.si rfl⟩
    simp (disch := omega) only [fm_token_j232, si_eq, iI_lit, iI_add, iI_sub, iI_mul, iI_neg, obs, if_true, if_false, Int.reduceEq, Int.reduceLE, Int.reduceLT, Int.reduceAdd, Int.reduceSub, Int.reduceMul, Int.reduceNeg, Nat.reduceEqDiff, iI_le, iI_lt, iI_eq, if_pos c]
  · refine ⟨mSi (mSi u 6 (iI so)) 4 (iI (q + k)), ?_, rfl, fun _ => si_eq, (fr.refl.si rfl).si rfl⟩
    have e4 : (mSi u 6 (iI so)).1 4 = iI q := h4
    simp (disch := omega) only [fm_token_j232, si_eq, e4, pI, iI_lit, iI_add, iI_sub, iI_mul, iI_neg, obs, if_true, if_false, Int.reduceEq, Int.reduceLE, Int.reduceLT, Int.reduceAdd, Int.reduceSub, Int.reduceMul, Int.reduceNeg, Nat.reduceEqDiff, iI_le, iI_lt, iI_eq, if_neg c]
theorem m_token (hT : txO T n) (h : MX T n s) (h4 : s.1 4 = iI p) (h0 : 0 ≤ p) (hp : p ≤ n) : ∃ s', fm_token s = some s' ∧ MT s' (tk T n p) ∧ fr [4, 6, 7, 8, 100] [] s s' := by
  have hn := hT.1
  obtain ⟨u, e1, u4, fu⟩ := m_skip hT h h4 h0 hp
  obtain ⟨⟨a1, a2⟩, -, -⟩ := rnE_ok (P := isBl) (T := T) hp
  unfold tk
  generalize rnE isBl T n p = q at *
  have f1 : fr [4, 6, 7, 8, 100] [] s (mSi (mSw (mSi u 7 (iI q)) 0) 8 (iI 0)) := (((fu.mono rfl rfl).si rfl).sw rfl).si rfl
  generalize hv : mSi (mSw (mSi u 7 (iI q)) 0) 8 (iI 0) = v at f1
  have v4 : v.1 4 = iI q := by rw [← hv]; exact u4
  have v7 : v.1 7 = iI q := by rw [← hv]; rfl
  have v8 : v.1 8 = iI 0 := by rw [← hv]; rfl
  have vw : v.2.1 = 0 := by rw [← hv]; rfl
  have hx : MX T n v := h.fr f1 rfl rfl
  have eh : fm_here (mSi u 7 (iI q)) (iI 0) = some (iI (hr T n q)) := by
    have := m_here (k := 0) (s := mSi u 7 (iI q)) hT (MX.fr (K := [4, 7]) (J := []) h ((fu.mono rfl rfl).si rfl) rfl rfl) (show (mSi u 7 (iI q)).1 4 = iI q from u4) (by omega) (by omega)
    rw [Int.add_zero] at this
    exact this
  by_cases c : q < n
  · have hq : hr T n q = T q := if_pos c
    have hb := hT.2 q
    rw [hq] at eh
    have l1 := m_isLt (c := T q) (by omega) (by omega)
    have l2 := m_isDg (c := T q) (by omega) (by omega)
    have l3 := m_isSg (c := T q) (by omega) (by omega)
    unfold tkA
    rw [if_pos c]
    by_cases c1 : isLt (T q) = true
    · rw [if_pos c1] at l1 ⊢
      obtain ⟨⟨z1, z2⟩, -, -⟩ := rnE_ok (P := isLt) (T := T) a2
      obtain ⟨r, er, r1, r2, r3⟩ := m_wordL hT hx v4 vw (by omega) a2
      have r4 : r.2.1 4 = iI q := by rw [r2.s 4 rfl]; exact v4
      generalize rnE isLt T n q = e at *
      by_cases c2 : e - q ≤ 8
      · rw [if_pos c2]
        obtain ⟨s', j1, j2, j3, j4⟩ := m_tokEnd (u := r.2) (q := q) (so := 1) (k := e - q) r4 (by omega)
        refine ⟨s', ?_, ⟨j2, ?_, fun _ => ?_, fun z => absurd (show (1 : Int) = 2 from z) (by decide), fun _ => ?_⟩, f1.trans ((r2.mono rfl rfl).trans (j4.mono rfl rfl))⟩
        · simp (disch := omega) only [fm_token, e1, u4, pI, pW, iI_lit, iI_add, iI_sub, iI_mul, iI_neg, obs, if_true, if_false, Int.reduceEq, Int.reduceLE, Int.reduceLT, Int.reduceAdd, Int.reduceSub, Int.reduceMul, Int.reduceNeg, Nat.reduceEqDiff, iI_le, iI_lt, iI_eq, eh, hv, l1, er, r1, fm_token_j131, if_pos hb.1, if_pos c2, show ¬ iI 1 = iI 0 by decide, j1]
        · rw [j4.s 7 rfl, r2.s 7 rfl]; exact v7
        · rw [j3 (by omega)]; congr 1; show q + (e - q) = e; omega
        · rw [j4.w rfl]; exact r3 c2
      · rw [if_neg c2]
        obtain ⟨s', j1, j2, j3, j4⟩ := m_tokEnd (u := r.2) (q := q) (so := 3) (k := e - q) r4 (by omega)
        refine ⟨s', ?_, ⟨j2, ?_, fun z => absurd rfl z, fun z => absurd (show (3 : Int) = 2 from z) (by decide), fun z => absurd (show (3 : Int) = 1 from z) (by decide)⟩, f1.trans ((r2.mono rfl rfl).trans (j4.mono rfl rfl))⟩
        · simp (disch := omega) only [fm_token, e1, u4, pI, pW, iI_lit, iI_add, iI_sub, iI_mul, iI_neg, obs, if_true, if_false, Int.reduceEq, Int.reduceLE, Int.reduceLT, Int.reduceAdd, Int.reduceSub, Int.reduceMul, Int.reduceNeg, Nat.reduceEqDiff, iI_le, iI_lt, iI_eq, eh, hv, l1, er, r1, fm_token_j131, if_pos hb.1, if_neg c2, show ¬ iI 1 = iI 0 by decide, j1]
        · rw [j4.s 7 rfl, r2.s 7 rfl]; exact v7
    · rw [if_neg c1] at l1 ⊢
      by_cases c3 : isDg (T q) = true
      · rw [if_pos c3] at l2 ⊢
        obtain ⟨⟨z1, z2⟩, -, z4⟩ := rnE_ok (P := isDg) (T := T) a2
        obtain ⟨r, er, r1, r2, r3⟩ := m_numL hT hx v4 v8 (by omega) a2
        have r4 : r.2.1 4 = iI q := by rw [r2.s 4 rfl]; exact v4
        generalize rnE isDg T n q = e at *
        have eh2 := m_here (s := r.2) (k := e - q) (p := q) hT (hx.fr r2 rfl rfl) r4 (by omega) (by omega)
        rw [show q + (e - q) = e by omega] at eh2
        have hb2 := hr_b hT e
        have l4 := m_isLt (c := hr T n e) (by omega) (by omega)
        have hle : isLt (hr T n e) = true ↔ (e < n ∧ isLt (T e) = true) := by
          unfold hr
          by_cases d : e < n
          · rw [if_pos d]; exact ⟨fun z => ⟨d, z⟩, fun z => z.2⟩
          · rw [if_neg d]; exact ⟨fun z => absurd z (by decide), fun z => absurd z.1 d⟩
        by_cases c2 : 4 < e - q ∨ (e < n ∧ isLt (T e) = true)
        · rw [if_pos c2]
          obtain ⟨s', j1, j2, j3, j4⟩ := m_tokEnd (u := r.2) (q := q) (so := 3) (k := e - q) r4 (by omega)
          refine ⟨s', ?_, ⟨j2, ?_, fun z => absurd rfl z, fun z => absurd (show (3 : Int) = 2 from z) (by decide), fun z => absurd (show (3 : Int) = 1 from z) (by decide)⟩, f1.trans ((r2.mono rfl rfl).trans (j4.mono rfl rfl))⟩
          · simp (disch := omega) only [fm_token, e1, u4, pI, pW, iI_lit, iI_add, iI_sub, iI_mul, iI_neg, obs, if_true, if_false, Int.reduceEq, Int.reduceLE, Int.reduceLT, Int.reduceAdd, Int.reduceSub, Int.reduceMul, Int.reduceNeg, Nat.reduceEqDiff, iI_le, iI_lt, iI_eq, eh, hv, l1, l2, er, r1, fm_token_j203, fm_token_j208, if_pos hb.1, show ¬ iI 1 = iI 0 by decide, j1, eh2, l4, hle]
            by_cases c5 : 4 < e - q
            · rw [if_pos c5]
            · have c6 : e < n ∧ isLt (T e) = true := by
                rcases c2 with z | z
                · exact absurd z c5
                · exact z
              simp only [if_neg c5, if_pos c6, show ¬ iI 1 = iI 0 by decide, if_false]
          · rw [j4.s 7 rfl, r2.s 7 rfl]; exact v7
        · rw [if_neg c2]
          obtain ⟨s', j1, j2, j3, j4⟩ := m_tokEnd (u := r.2) (q := q) (so := 2) (k := e - q) r4 (by omega)
          refine ⟨s', ?_, ⟨j2, ?_, fun _ => ?_, fun _ => ?_, fun z => absurd (show (2 : Int) = 1 from z) (by decide)⟩, f1.trans ((r2.mono rfl rfl).trans (j4.mono rfl rfl))⟩
          · simp (disch := omega) only [fm_token, e1, u4, pI, pW, iI_lit, iI_add, iI_sub, iI_mul, iI_neg, obs, if_true, if_false, Int.reduceEq, Int.reduceLE, Int.reduceLT, Int.reduceAdd, Int.reduceSub, Int.reduceMul, Int.reduceNeg, Nat.reduceEqDiff, iI_le, iI_lt, iI_eq, eh, hv, l1, l2, er, r1, fm_token_j203, fm_token_j208, if_pos hb.1, show ¬ iI 1 = iI 0 by decide, j1, eh2, l4, hle]
            have c5 : ¬ 4 < e - q := fun z => c2 (Or.inl z)
            have c6 : ¬ (e < n ∧ isLt (T e) = true) := fun z => c2 (Or.inr z)
            simp only [if_neg c5, if_neg c6, if_true]
          · rw [j4.s 7 rfl, r2.s 7 rfl]; exact v7
          · rw [j3 (by omega)]; congr 1; show q + (e - q) = e; omega
          · rw [j4.s 8 rfl]; exact r3 (by omega)
      · rw [if_neg c3] at l2 ⊢
        by_cases c4 : isSg (T q) = true
        · rw [if_pos c4] at l3 ⊢
          obtain ⟨s', j1, j2, j3, j4⟩ := m_tokEnd (u := v) (q := q) (so := T q) (k := 1) v4 (by omega)
          have n12 : ¬ T q = 1 ∧ ¬ T q = 2 ∧ ¬ T q = 3 := by have := isSg_t.mp c4; omega
          refine ⟨s', ?_, ⟨j2, ?_, fun _ => j3 n12.2.2, fun z => absurd (show T q = 2 from z) n12.2.1, fun z => absurd (show T q = 1 from z) n12.1⟩, f1.trans (j4.mono rfl rfl)⟩
          · simp (disch := omega) only [fm_token, e1, u4, pI, pW, iI_lit, iI_add, iI_sub, iI_mul, iI_neg, obs, if_true, if_false, Int.reduceEq, Int.reduceLE, Int.reduceLT, Int.reduceAdd, Int.reduceSub, Int.reduceMul, Int.reduceNeg, Nat.reduceEqDiff, iI_le, iI_lt, iI_eq, eh, hv, l1, l2, l3, fm_token_j229, if_pos hb.1, show ¬ iI 1 = iI 0 by decide, j1]
          · rw [j4.s 7 rfl]; exact v7
        · rw [if_neg c4] at l3 ⊢
          obtain ⟨s', j1, j2, j3, j4⟩ := m_tokEnd (u := v) (q := q) (so := 3) (k := 1) v4 (by omega)
          refine ⟨s', ?_, ⟨j2, ?_, fun z => absurd rfl z, fun z => absurd (show (3 : Int) = 2 from z) (by decide), fun z => absurd (show (3 : Int) = 1 from z) (by decide)⟩, f1.trans (j4.mono rfl rfl)⟩
          · simp (disch := omega) only [fm_token, e1, u4, pI, pW, iI_lit, iI_add, iI_sub, iI_mul, iI_neg, obs, if_true, if_false, Int.reduceEq, Int.reduceLE, Int.reduceLT, Int.reduceAdd, Int.reduceSub, Int.reduceMul, Int.reduceNeg, Nat.reduceEqDiff, iI_le, iI_lt, iI_eq, eh, hv, l1, l2, l3, fm_token_j229, if_pos hb.1, show ¬ iI 1 = iI 0 by decide, j1]
          · rw [j4.s 7 rfl]; exact v7
  · have hq : hr T n q = -1 := if_neg c
    rw [hq] at eh
    unfold tkA
    rw [if_neg c]
    obtain ⟨s', j1, j2, j3, j4⟩ := m_tokEnd (u := v) (q := q) (so := 0) (k := 0) v4 (by omega)
    refine ⟨s', ?_, ⟨j2, ?_, fun _ => ?_, fun z => absurd (show (0 : Int) = 2 from z) (by decide), fun z => absurd (show (0 : Int) = 1 from z) (by decide)⟩, f1.trans (j4.mono rfl rfl)⟩
    · simp (disch := omega) only [fm_token, e1, u4, pI, pW, iI_lit, iI_add, iI_sub, iI_mul, iI_neg, obs, if_true, if_false, Int.reduceEq, Int.reduceLE, Int.reduceLT, Int.reduceAdd, Int.reduceSub, Int.reduceMul, Int.reduceNeg, Nat.reduceEqDiff, iI_le, iI_lt, iI_eq, eh, hv, j1]
    · rw [j4.s 7 rfl]; exact v7
    · rw [j3 (by omega)]; congr 1; show q + 0 = q; omega
end L1

/-! LAYER 3, the formula: the model's stack -/
set_option maxRecDepth 100000
def tg (c : Int) : Int := if c = 21 then 3 else if c = 38 then 2 else if c = 43 then 5 else if c = 45 then 5 else if c = 60 then 4 else if c = 61 then 4 else if c = 62 then 4 else if c = 124 then 1 else 6
theorem tg_b (c : Int) : 1 ≤ tg c ∧ tg c ≤ 6 := by unfold tg; repeat' split; all_goals omega
theorem m_tight {c : Int} (h1 : 0 ≤ c) (h2 : c ≤ 255) : fm_tight (iI c) = some (iI (tg c)) := by
  simp (disch := omega) only [fm_tight, tg, iI_lit, iI_add, iI_sub, iI_mul, iI_neg, obs, if_true, if_false, Int.reduceEq, Int.reduceLE, Int.reduceLT, Int.reduceAdd, Int.reduceSub, Int.reduceMul, Int.reduceNeg, Nat.reduceEqDiff, iI_le, iI_lt, iI_eq]
  repeat' split
  all_goals rfl
/-- the sign that stands here -/
def sgT (τ : Tk) : Int := if isW τ W_and then 38 else if isW τ W_or then 124 else if tS τ = 60 ∨ tS τ = 62 ∨ tS τ = 61 ∨ tS τ = 43 ∨ tS τ = 45 ∨ tS τ = 42 ∨ tS τ = 47 ∨ tS τ = 37 then tS τ else 0
theorem sgT_b {τ : Tk} : 0 ≤ sgT τ ∧ sgT τ ≤ 255 := by unfold sgT; repeat' split; all_goals omega
theorem sgT_20 {τ : Tk} : ¬ sgT τ = 20 ∧ ¬ sgT τ = 21 := by unfold sgT; repeat' split; all_goals omega
theorem sgT_41 {τ : Tk} (h : ¬ sgT τ = 0) : ¬ tS τ = 41 ∧ ¬ tS τ = 3 := by
  unfold sgT at h
  by_cases c1 : isW τ W_and
  · have := c1.1; omega
  · rw [if_neg c1] at h
    by_cases c2 : isW τ W_or
    · have := c2.1; omega
    · rw [if_neg c2] at h
      split at h <;> omega
theorem m_signT {T : Int → Int} {n : Int} {s : mS} {τ : Tk} (h : MT s τ) (ht : tkO T n τ) : fm_sign s = some (iI (sgT τ)) := by
  have hb := so_b ht
  have h6 := h.1
  have e1 := m_isW (w := W_and) h ht
  have e2 := m_isW (w := W_or) h ht
  unfold fm_sign
  rw [cW_and, e1, obs, h6]
  unfold sgT
  by_cases c1 : isW τ W_and
  · rw [if_pos c1, if_pos c1, if_neg (by decide)]
    rfl
  · rw [if_neg c1, if_neg c1, if_pos rfl, cW_or, e2, obs]
    by_cases c2 : isW τ W_or
    · rw [if_pos c2, if_pos c2, if_neg (by decide)]
      rfl
    · rw [if_neg c2, if_neg c2, if_pos rfl]
      simp (disch := omega) only [iI_lit, iI_eq]
      by_cases c3 : tS τ = 60 ∨ tS τ = 62 ∨ tS τ = 61 ∨ tS τ = 43 ∨ tS τ = 45 ∨ tS τ = 42 ∨ tS τ = 47 ∨ tS τ = 37
      · rw [if_pos c3]
        repeat' split
        all_goals first | rfl | omega
      · rw [if_neg c3]
        rw [if_neg (by omega), if_neg (by omega), if_neg (by omega), if_neg (by omega), if_neg (by omega), if_neg (by omega), if_neg (by omega), if_neg (by omega)]
/-- the stack: its top first -/
def stkA (f : Nat → Int32) : List Int → Prop
  | [] => True
  | c :: S => f S.length = iI c ∧ stkA f S
theorem stkA_up {f g : Nat → Int32} : ∀ {S : List Int}, (∀ k, k < S.length → g k = f k) → stkA f S → stkA g S := by
  intro S
  induction S with
  | nil => intro _ _; exact trivial
  | cons c S ih =>
    intro h hs
    simp only [List.length_cons] at h
    exact ⟨by rw [h S.length (by omega)]; exact hs.1, ih (fun k hk => h k (by omega)) hs.2⟩
def hasRel : List Int → Bool
  | [] => false
  | c :: S => if c = 20 then false else if 4 < tg c then hasRel S else decide (tg c = 4)
def mayN : List Int → Prop
  | [] => True
  | c :: _ => c = 20 ∨ tg c < 4
def lowT (v : Int) : List Int → Prop
  | [] => True
  | c :: _ => c = 20 ∨ tg c < v
def flS (P : List Int) : List (Nat × Int32) := P.map (fun c => if c = 21 then (2, 0) else (3, iI c))
def ntS : List Int → Int
  | [] => 0
  | c :: S => (if c = 21 then 1 else 0) + ntS S
theorem ntS_b : ∀ P : List Int, 0 ≤ ntS P ∧ ntS P ≤ P.length := by
  intro P
  induction P with
  | nil => exact ⟨Int.le_refl _, Int.le_refl _⟩
  | cons c P ih =>
    simp only [ntS, List.length_cons]
    split <;> omega
theorem ntS_app (P Q : List Int) : ntS (P ++ Q) = ntS P + ntS Q := by
  induction P with
  | nil => simp [ntS]
  | cons c P ih => simp only [List.cons_append, ntS, ih]; omega
/-- the model, its stack and its steps -/
def SO (s : mS) (S : List Int) (l : List (Nat × Int32)) : Prop := (s.1 19 = iI S.length ∧ stkA (s.2.2.1 7) S ∧ ∀ c ∈ S, 0 ≤ c ∧ c ≤ 255) ∧ (s.1 17 = iI l.length ∧ ∀ k p, l[k]? = some p → s.2.2.1 3 k = iI p.1 ∧ s.2.2.1 4 k = p.2)
section M0
variable {s s1 : mS} {S P : List Int} {l : List (Nat × Int32)} {K J : List Nat}
theorem SO.fr (h : SO s S l) (f : fr K J s s1) (h1 : K.contains 19 = false) (h2 : K.contains 17 = false) (h3 : J.contains 7 = false) (h4 : J.contains 3 = false) (h5 : J.contains 4 = false) : SO s1 S l := by
  obtain ⟨⟨a1, a2, a3⟩, b1, b2⟩ := h
  exact ⟨⟨by rw [f.s 19 h1]; exact a1, by rw [f.a 7 h3]; exact a2, a3⟩, by rw [f.s 17 h2]; exact b1, fun k p hp => by rw [f.a 3 h4, f.a 4 h5]; exact b2 k p hp⟩
theorem m_add (h : SO s S l) (hl : l.length < 320) {k0 : Nat} {v : Int32} : ∃ s', fm_add s (iI k0) v = some s' ∧ SO s' S (l ++ [(k0, v)]) ∧ fr [17] [3, 4] s s' := by
  obtain ⟨a, b1, b2⟩ := h
  refine ⟨mSi (aw (aw s 3 l.length (iI k0)) 4 l.length v) 17 (iI ((l.length : Int) + 1)), ?_, ⟨a, ?_, fun k p hp => ?_⟩, ((fr.refl.aw rfl).aw rfl).si rfl⟩
  · have e17 : ∀ w : Int32, (aw s 3 l.length w).1 17 = iI l.length := fun w => b1
    have e17' : ∀ w w' : Int32, (aw (aw s 3 l.length w) 4 l.length w').1 17 = iI l.length := fun w w' => b1
    unfold fm_add
    rw [b1, sto_w (by omega) (by omega) (by omega), obs, Int.toNat_natCast, e17, sto_w (by omega) (by omega) (by omega), obs, Int.toNat_natCast, e17', i1, iI_add]
    rfl
  · rw [si_eq]
    congr 1
    simp
  · show (aw (aw s 3 l.length (iI k0)) 4 l.length v).2.2.1 3 k = _ ∧ (aw (aw s 3 l.length (iI k0)) 4 l.length v).2.2.1 4 k = _
    simp only [aw_get, Nat.reduceEqDiff, false_and, true_and, if_false]
    by_cases c : k = l.length
    · subst c
      rw [if_pos rfl, if_pos rfl]
      rw [List.getElem?_append_right (Nat.le_refl _)] at hp
      simp at hp
      rw [← hp]
      exact ⟨rfl, rfl⟩
    · rw [if_neg c, if_neg c]
      have hk : k < l.length := by
        rcases Nat.lt_or_ge k l.length with z | z
        · exact z
        · rw [List.getElem?_append_right z, List.getElem?_eq_none (by simp; omega)] at hp
          cases hp
      rw [List.getElem?_append_left hk] at hp
      exact b2 k p hp
theorem SO.top {c : Int} (h : SO s (c :: S) l) (hS : S.length < 159) : s.1 19 = iI ((S.length : Int) + 1) ∧ ld 7 160 s (iI S.length) = some (iI c) ∧ (0 ≤ c ∧ c ≤ 255) := by
  obtain ⟨⟨a1, a2, a3⟩, -⟩ := h
  refine ⟨by rw [a1]; simp, ?_, a3 c (by simp)⟩
  rw [ld_i (by omega) (by omega) (by omega), Int.toNat_natCast, a2.1]
theorem SO.pop {c : Int} (h : SO s (c :: S) l) : SO (mSi s 19 (iI S.length)) S l := by
  obtain ⟨⟨a1, a2, a3⟩, b⟩ := h
  exact ⟨⟨si_eq, a2.2, fun c hc => a3 c (by simp [hc])⟩, b⟩
theorem SO.push {c : Int} (h : SO s S l) (hS : S.length < 160) (hc : 0 ≤ c ∧ c ≤ 255) : sto 7 160 s (iI S.length) (iI c) = some (aw s 7 S.length (iI c)) ∧ SO (mSi (aw s 7 S.length (iI c)) 19 (iI ((S.length : Int) + 1))) (c :: S) l := by
  obtain ⟨⟨a1, a2, a3⟩, b1, b2⟩ := h
  refine ⟨by rw [sto_w (by omega) (by omega) (by omega), Int.toNat_natCast], ⟨by rw [si_eq]; simp, ⟨?_, stkA_up (fun k hk => ?_) a2⟩, fun d hd => ?_⟩, b1, b2⟩
  · show (aw s 7 S.length (iI c)).2.2.1 7 S.length = _
    rw [aw_get, if_pos ⟨rfl, rfl⟩]
  · show (aw s 7 S.length (iI c)).2.2.1 7 k = _
    rw [aw_get, if_neg (by omega)]
  · rcases List.mem_cons.mp hd with rfl | hd
    · exact hc
    · exact a3 d hd
theorem m_mayN (h : SO s S l) (hS : S.length < 160) : (mayN S → fm_mayNot s = some 1) ∧ (¬ mayN S → fm_mayNot s = some 0) := by
  cases S with
  | nil =>
    have a1 : s.1 19 = iI 0 := h.1.1
    refine ⟨fun _ => ?_, fun z => absurd trivial z⟩
    simp (disch := omega) only [fm_mayNot, a1, iI_lit, iI_add, iI_sub, iI_mul, iI_neg, obs, if_true, if_false, Int.reduceEq, Int.reduceLE, Int.reduceLT, Int.reduceAdd, Int.reduceSub, Int.reduceMul, Int.reduceNeg, Nat.reduceEqDiff, iI_le, iI_lt, iI_eq]
  | cons c S =>
    simp only [List.length_cons] at hS
    obtain ⟨a1, a2, a3⟩ := h.top (by omega)
    have et := m_tight a3.1 a3.2
    have tb := tg_b c
    have key : fm_mayNot s = some (if c = 20 then iI 1 else if 4 ≤ tg c then iI 0 else iI 1) := by
      simp (disch := omega) only [fm_mayNot, a1, iI_lit, iI_add, iI_sub, iI_mul, iI_neg, obs, if_true, if_false, Int.reduceEq, Int.reduceLE, Int.reduceLT, Int.reduceAdd, Int.reduceSub, Int.reduceMul, Int.reduceNeg, Nat.reduceEqDiff, iI_le, iI_lt, iI_eq]
      rw [if_neg (by omega), show (S.length : Int) + 1 - 1 = S.length by omega, a2, obs]
      simp (disch := omega) only [iI_lit, iI_add, iI_sub, iI_mul, iI_neg, obs, if_true, if_false, Int.reduceEq, Int.reduceLE, Int.reduceLT, Int.reduceAdd, Int.reduceSub, Int.reduceMul, Int.reduceNeg, Nat.reduceEqDiff, iI_le, iI_lt, iI_eq, et]
      split
      · rfl
      · split <;> rfl
    refine ⟨fun z => ?_, fun z => ?_⟩
    · rw [key]
      rcases z with z | z
      · rw [if_pos z]; rfl
      · by_cases d : c = 20
        · rw [if_pos d]; rfl
        · rw [if_neg d, if_neg (by omega)]; rfl
    · rw [key, if_neg (fun q => z (Or.inl q)), if_pos (by
        apply Classical.byContradiction
        intro q
        exact z (Or.inr (by omega)))]
      rfl
theorem m_hasBr (h : SO s S l) (hS : S.length < 160) : fm_hasBracket s = some (if 20 ∈ S then 1 else 0) := by
  -- open[k] is the k-th from below
  have hk : ∀ (S : List Int), stkA (s.2.2.1 7) S → (∀ c ∈ S, 0 ≤ c ∧ c ≤ 255) → (∀ k, k < S.length → ∃ c, c ∈ S ∧ s.2.2.1 7 k = iI c) ∧ (∀ c ∈ S, ∃ k, k < S.length ∧ s.2.2.1 7 k = iI c) := by
    intro S
    induction S with
    | nil => intro _ _; exact ⟨fun k hk => absurd hk (Nat.not_lt_zero k), fun c hc => absurd hc (by simp)⟩
    | cons c S ih =>
      intro hs hb
      obtain ⟨i1, i2⟩ := ih hs.2 (fun c hc => hb c (by simp [hc]))
      simp only [List.length_cons]
      refine ⟨fun k hk => ?_, fun d hd => ?_⟩
      · by_cases e : k = S.length
        · exact ⟨c, by simp, by rw [e]; exact hs.1⟩
        · obtain ⟨d, d1, d2⟩ := i1 k (by omega)
          exact ⟨d, by simp [d1], d2⟩
      · rcases List.mem_cons.mp hd with rfl | hd
        · exact ⟨S.length, by omega, hs.1⟩
        · obtain ⟨k, k1, k2⟩ := i2 d hd
          exact ⟨k, by omega, k2⟩
  obtain ⟨⟨a1, a2, a3⟩, -⟩ := h
  obtain ⟨i1, i2⟩ := hk S a2 a3
  have loop : ∃ q, lp (fm_hasBracket_b4 s) (iI 0, iI 0) = some q ∧ ((q = iI 1 ∧ 20 ∈ S) ∨ (q = iI 0 ∧ ¬ 20 ∈ S)) := by
    refine lp_inv (fun i q => q.2 = iI i ∧ ((q.1 = iI 1 ∧ 20 ∈ S) ∨ (q.1 = iI 0 ∧ ∀ k, k < i → ¬ s.2.2.1 7 k = iI 20))) S.length ?_ ?_ ⟨rfl, Or.inr ⟨rfl, fun k hk => absurd hk (Nat.not_lt_zero k)⟩⟩
    · rintro i ⟨b, j⟩ hi ⟨g1, g2⟩
      simp only at g1 g2
      subst g1
      left
      rcases g2 with ⟨rfl, g2⟩ | ⟨rfl, g2⟩
      · refine ⟨(iI 1, iI ((i : Int) + 1)), ?_, by congr 1, Or.inl ⟨rfl, g2⟩⟩
        simp (disch := omega) only [fm_hasBracket_b4, a1, iI_lit, iI_add, iI_sub, iI_mul, iI_neg, obs, if_true, if_false, Int.reduceEq, Int.reduceLE, Int.reduceLT, Int.reduceAdd, Int.reduceSub, Int.reduceMul, Int.reduceNeg, Nat.reduceEqDiff, iI_le, iI_lt, iI_eq]
        rw [if_neg (by omega)]
      · obtain ⟨c, c1, c2⟩ := i1 i hi
        have cb := a3 c c1
        have el : ld 7 160 s (iI i) = some (iI c) := by rw [ld_i (by omega) (by omega) (by omega), Int.toNat_natCast, c2]
        by_cases d : c = 20
        · refine ⟨(iI 1, iI ((i : Int) + 1)), ?_, by congr 1, Or.inl ⟨rfl, d ▸ c1⟩⟩
          simp (disch := omega) only [fm_hasBracket_b4, a1, el, iI_lit, iI_add, iI_sub, iI_mul, iI_neg, obs, if_true, if_false, Int.reduceEq, Int.reduceLE, Int.reduceLT, Int.reduceAdd, Int.reduceSub, Int.reduceMul, Int.reduceNeg, Nat.reduceEqDiff, iI_le, iI_lt, iI_eq]
          rw [if_neg (by omega), if_pos d]
        · refine ⟨(iI 0, iI ((i : Int) + 1)), ?_, by congr 1, Or.inr ⟨rfl, fun k hk => ?_⟩⟩
          · simp (disch := omega) only [fm_hasBracket_b4, a1, el, iI_lit, iI_add, iI_sub, iI_mul, iI_neg, obs, if_true, if_false, Int.reduceEq, Int.reduceLE, Int.reduceLT, Int.reduceAdd, Int.reduceSub, Int.reduceMul, Int.reduceNeg, Nat.reduceEqDiff, iI_le, iI_lt, iI_eq]
            rw [if_neg (by omega), if_neg d]
          · by_cases e : k = i
            · rw [e, c2, iI_eq (by omega) (by omega) (by omega) (by omega)]; exact d
            · exact g2 k (by omega)
    · rintro ⟨b, j⟩ ⟨g1, g2⟩
      simp only at g1 g2
      subst g1
      refine ⟨b, ?_, ?_⟩
      · simp (disch := omega) only [fm_hasBracket_b4, a1, iI_lit, iI_add, iI_sub, iI_mul, iI_neg, obs, if_true, if_false, Int.reduceEq, Int.reduceLE, Int.reduceLT, Int.reduceAdd, Int.reduceSub, Int.reduceMul, Int.reduceNeg, Nat.reduceEqDiff, iI_le, iI_lt, iI_eq]
        rw [if_pos (by omega)]
      · rcases g2 with g2 | ⟨g2, g3⟩
        · exact Or.inl g2
        · right
          refine ⟨g2, fun z => ?_⟩
          obtain ⟨k, k1, k2⟩ := i2 20 z
          exact g3 k k1 k2
  obtain ⟨q, e1, e2⟩ := loop
  unfold fm_hasBracket
  rw [show ((0, 0) : Int32 × Int32) = (iI 0, iI 0) from rfl, e1, obs]
  rcases e2 with ⟨rfl, e2⟩ | ⟨rfl, e2⟩
  · rw [if_pos e2]; rfl
  · rw [if_neg e2]; rfl
theorem m_hasRel (h : SO s S l) (hS : S.length < 160) : fm_hasRelation s = some (if hasRel S = true then 1 else 0) := by
  have main : ∀ (P : List Int), P.length < 160 → stkA (s.2.2.1 7) P → (∀ c ∈ P, 0 ≤ c ∧ c ≤ 255) → (lp (fm_hasRelation_b7 s) (iI ((P.length : Int) - 1))).bind (fun q7 => fm_hasRelation_j41 s q7) = some (if hasRel P = true then 1 else 0) := by
    intro P
    induction P with
    | nil =>
      intro _ _ _
      rw [lp_out (r := iI (-1)) (by
        simp only [List.length_nil]
        simp (disch := omega) only [fm_hasRelation_b7, iI_lit, iI_add, iI_sub, iI_mul, iI_neg, obs, if_true, if_false, Int.reduceEq, Int.reduceLE, Int.reduceLT, Int.reduceAdd, Int.reduceSub, Int.reduceMul, Int.reduceNeg, Nat.reduceEqDiff, iI_le, iI_lt, iI_eq]
        rfl), obs]
      simp (disch := omega) only [fm_hasRelation_j41, iI_lit, iI_add, iI_sub, iI_mul, iI_neg, obs, if_true, if_false, Int.reduceEq, Int.reduceLE, Int.reduceLT, Int.reduceAdd, Int.reduceSub, Int.reduceMul, Int.reduceNeg, Nat.reduceEqDiff, iI_le, iI_lt, iI_eq]
      rfl
    | cons c P ih =>
      intro hl hs hb
      simp only [List.length_cons] at hl ⊢
      have cb := hb c (by simp)
      have et := m_tight cb.1 cb.2
      have tb := tg_b c
      have el : ld 7 160 s (iI P.length) = some (iI c) := by rw [ld_i (by omega) (by omega) (by omega), Int.toNat_natCast, hs.1]
      rw [show (((P.length + 1 : Nat) : Int) - 1) = P.length by omega]
      have eb : fm_hasRelation_b7 s (iI P.length) = if c = 20 then some (.inr (iI P.length)) else if tg c ≤ 4 then some (.inr (iI P.length)) else some (.inl (iI ((P.length : Int) - 1))) := by
        simp (disch := omega) only [fm_hasRelation_b7, el, et, iI_lit, iI_add, iI_sub, iI_mul, iI_neg, obs, if_true, if_false, Int.reduceEq, Int.reduceLE, Int.reduceLT, Int.reduceAdd, Int.reduceSub, Int.reduceMul, Int.reduceNeg, Nat.reduceEqDiff, iI_le, iI_lt, iI_eq]
        rw [if_neg (by omega), show (P.length : Int) + -1 = (P.length : Int) - 1 by omega]
      have ej : fm_hasRelation_j41 s (iI P.length) = if c = 20 then some (iI 0) else if tg c = 4 then some (iI 1) else some (iI 0) := by
        simp (disch := omega) only [fm_hasRelation_j41, el, et, iI_lit, iI_add, iI_sub, iI_mul, iI_neg, obs, if_true, if_false, Int.reduceEq, Int.reduceLE, Int.reduceLT, Int.reduceAdd, Int.reduceSub, Int.reduceMul, Int.reduceNeg, Nat.reduceEqDiff, iI_le, iI_lt, iI_eq]
        rw [if_neg (by omega)]
      by_cases c1 : c = 20
      · rw [if_pos c1] at eb ej
        have er : hasRel (c :: P) = false := if_pos c1
        rw [lp_out eb, obs, ej, er]
        rfl
      · rw [if_neg c1] at eb ej
        by_cases c2 : tg c ≤ 4
        · rw [if_pos c2] at eb
          have er : hasRel (c :: P) = decide (tg c = 4) := (if_neg c1).trans (if_neg (by omega))
          rw [lp_out eb, obs, ej, er]
          by_cases c3 : tg c = 4
          · rw [if_pos c3, if_pos (decide_eq_true c3)]; rfl
          · rw [if_neg c3, if_neg (by simp [c3])]; rfl
        · rw [if_neg c2] at eb
          have er : hasRel (c :: P) = hasRel P := (if_neg c1).trans (if_pos (by omega))
          rw [lp_back eb, ih (by omega) hs.2 (fun c hc => hb c (by simp [hc])), er]
  obtain ⟨⟨a1, a2, a3⟩, -⟩ := h
  have := main S hS a2 a3
  unfold fm_hasRelation
  rw [a1, i1, iI_sub]
  exact this
/-- signs are done, down to those that bind less -/
theorem m_close {v : Int} (hv : 0 ≤ v ∧ v ≤ 6) {d : Int} : ∀ (P : List Int) {s : mS} {l : List (Nat × Int32)} {d : Int}, SO s (P ++ S) l → s.1 23 = iI d → (∀ c ∈ P, ¬ c = 20 ∧ v ≤ tg c) → lowT v S → (P ++ S).length < 160 → l.length + P.length ≤ 320 → ∃ s', fm_close s (iI v) = some s' ∧ SO s' S (l ++ flS P) ∧ s'.1 23 = iI (d - ntS P) ∧ fr [17, 19, 23] [3, 4] s s' := by
  have main : ∀ (P : List Int) {s : mS} {l : List (Nat × Int32)} {d : Int}, SO s (P ++ S) l → s.1 23 = iI d → (∀ c ∈ P, ¬ c = 20 ∧ v ≤ tg c) → lowT v S → (P ++ S).length < 160 → l.length + P.length ≤ 320 → ∃ s', lp (fm_close_b0 (iI v)) s = some s' ∧ SO s' S (l ++ flS P) ∧ s'.1 23 = iI (d - ntS P) ∧ fr [17, 19, 23] [3, 4] s s' := by
    intro P
    induction P with
    | nil =>
      intro s l d h hd _ hS hl _
      simp only [List.nil_append] at h hl
      refine ⟨s, lp_out ?_, by simpa [flS] using h, by rw [hd]; simp [ntS], fr.refl⟩
      cases S with
      | nil =>
        have a1 : s.1 19 = iI 0 := h.1.1
        simp (disch := omega) only [fm_close_b0, a1, iI_lit, iI_add, iI_sub, iI_mul, iI_neg, obs, if_true, if_false, Int.reduceEq, Int.reduceLE, Int.reduceLT, Int.reduceAdd, Int.reduceSub, Int.reduceMul, Int.reduceNeg, Nat.reduceEqDiff, iI_le, iI_lt, iI_eq]
      | cons c S =>
        simp only [List.length_cons] at hl
        obtain ⟨a1, a2, a3⟩ := h.top (by omega)
        have et := m_tight a3.1 a3.2
        have tb := tg_b c
        simp (disch := omega) only [fm_close_b0, a1, iI_lit, iI_add, iI_sub, iI_mul, iI_neg, obs, if_true, if_false, Int.reduceEq, Int.reduceLE, Int.reduceLT, Int.reduceAdd, Int.reduceSub, Int.reduceMul, Int.reduceNeg, Nat.reduceEqDiff, iI_le, iI_lt, iI_eq]
        rw [if_neg (by omega), show (S.length : Int) + 1 - 1 = S.length by omega, a2, obs]
        simp (disch := omega) only [iI_lit, iI_add, iI_sub, iI_mul, iI_neg, obs, if_true, if_false, Int.reduceEq, Int.reduceLE, Int.reduceLT, Int.reduceAdd, Int.reduceSub, Int.reduceMul, Int.reduceNeg, Nat.reduceEqDiff, iI_le, iI_lt, iI_eq, et]
        rcases hS with z | z
        · rw [if_pos z]
        · rw [if_pos z]
          split <;> rfl
    | cons c P ih =>
      intro s l d h hd hP hS hl hll
      simp only [List.cons_append, List.length_cons] at h hl hll
      obtain ⟨a1, a2, a3⟩ := h.top (by omega)
      obtain ⟨c1, c2⟩ := hP c (by simp)
      have et := m_tight a3.1 a3.2
      have tb := tg_b c
      have hp := h.pop
      obtain ⟨e1, e2, e3⟩ := show (mSi s 19 (iI (P ++ S).length)).1 23 = iI d ∧ (mSi s 19 (iI (P ++ S).length)).1 19 = iI (P ++ S).length ∧ ld 7 160 (mSi s 19 (iI (P ++ S).length)) (iI (P ++ S).length) = some (iI c) from ⟨hd, si_eq, by rw [← a2]; rfl⟩
      have f0 : fr [17, 19, 23] [3, 4] s (mSi s 19 (iI (P ++ S).length)) := fr.refl.si rfl
      generalize hu : mSi s 19 (iI (P ++ S).length) = u at *
      have eb : fm_close_b0 (iI v) s = if c = 21 then (fm_add u 2 0).bind fun p68 => (pI 23 p68 ((p68.1 23) - 1)).bind fun s78 => some (.inl s78) else (fm_add u 3 (iI c)).bind fun p95 => some (.inl p95) := by
        simp (disch := omega) only [fm_close_b0, a1, iI_lit, iI_sub, iI_le]
        rw [if_neg (by omega), show ((P ++ S).length : Int) + 1 - 1 = (P ++ S).length by omega, a2, obs]
        simp (disch := omega) only [iI_eq]
        rw [if_neg c1, obs, et, obs]
        simp (disch := omega) only [iI_lt]
        rw [if_neg (by omega)]
        simp only [pI, obs, hu, e2, e3]
        simp (disch := omega) only [iI_eq]
      by_cases c3 : c = 21
      · obtain ⟨s2, k1, k2, k3⟩ := m_add (k0 := 2) (v := 0) hp (by omega)
        have k4 : s2.1 23 = iI d := by rw [k3.s 23 rfl]; exact e1
        rw [if_pos c3, show (2 : Int32) = iI ((2 : Nat) : Int) from rfl, k1, obs, k4, i1, iI_sub] at eb
        simp only [pI, obs] at eb
        have f2 : fr [17, 19, 23] [3, 4] s (mSi s2 23 (iI (d - 1))) := (f0.trans (k3.mono rfl rfl)).si rfl
        obtain ⟨s', j1, j2, j3, j4⟩ := ih (s := mSi s2 23 (iI (d - 1))) (l := l ++ [(2, 0)]) (d := d - 1) k2 si_eq (fun c hc => hP c (by simp [hc])) hS (by omega) (by simp; omega)
        refine ⟨s', (lp_back eb).trans j1, ?_, ?_, f2.trans j4⟩
        · have : l ++ flS (c :: P) = l ++ [(2, 0)] ++ flS P := by simp [flS, c3]
          rw [this]; exact j2
        · rw [j3]
          congr 1
          simp only [ntS, c3, if_true]
          omega
      · obtain ⟨s2, k1, k2, k3⟩ := m_add (k0 := 3) (v := iI c) hp (by omega)
        have k4 : s2.1 23 = iI d := by rw [k3.s 23 rfl]; exact e1
        rw [if_neg c3, show (3 : Int32) = iI ((3 : Nat) : Int) from rfl, k1, obs] at eb
        have f2 : fr [17, 19, 23] [3, 4] s s2 := f0.trans (k3.mono rfl rfl)
        obtain ⟨s', j1, j2, j3, j4⟩ := ih (s := s2) (l := l ++ [(3, iI c)]) (d := d) k2 k4 (fun c hc => hP c (by simp [hc])) hS (by omega) (by simp; omega)
        refine ⟨s', (lp_back eb).trans j1, ?_, ?_, f2.trans j4⟩
        · have : l ++ flS (c :: P) = l ++ [(3, iI c)] ++ flS P := by simp [flS, c3]
          rw [this]; exact j2
        · rw [j3]
          congr 1
          simp only [ntS, if_neg c3]
          omega
  intro P s l d h1 h2 h3 h4 h5 h6
  obtain ⟨s', k1, k2⟩ := main P h1 h2 h3 h4 h5 h6
  refine ⟨s', ?_, k2⟩
  unfold fm_close
  rw [k1]
  rfl
end M0

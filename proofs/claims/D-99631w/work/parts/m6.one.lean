/-! LAYER 3, the formula: its levels -/
set_option maxRecDepth 100000
section M6
variable {G : ai_G} {O : Nat → Nat} {T : Int → Int} {n : Int} {R A F r : Nat} {τ : Tk}
theorem tg_3 {c : Int} (h : tg c = 3) : c = 21 := by
  unfold tg at h
  repeat' split at h
  all_goals omega
theorem sg_cases (τ : Tk) : (isW τ W_and ∧ sgT τ = 38 ∧ tg (sgT τ) = 2) ∨ (¬ isW τ W_and ∧ isW τ W_or ∧ sgT τ = 124 ∧ tg (sgT τ) = 1) ∨ (¬ isW τ W_and ∧ ¬ isW τ W_or ∧ sgT τ = tS τ ∧ ((tS τ = 42 ∨ tS τ = 47 ∨ tS τ = 37) ∧ tg (sgT τ) = 6 ∨ (tS τ = 43 ∨ tS τ = 45) ∧ tg (sgT τ) = 5 ∨ (tS τ = 60 ∨ tS τ = 62 ∨ tS τ = 61) ∧ tg (sgT τ) = 4)) ∨ (¬ isW τ W_and ∧ ¬ isW τ W_or ∧ sgT τ = 0 ∧ ¬ (tS τ = 60 ∨ tS τ = 62 ∨ tS τ = 61 ∨ tS τ = 43 ∨ tS τ = 45 ∨ tS τ = 42 ∨ tS τ = 47 ∨ tS τ = 37)) := by
  by_cases c1 : isW τ W_and
  · left
    have e : sgT τ = 38 := by unfold sgT; rw [if_pos c1]
    exact ⟨c1, e, by rw [e]; decide⟩
  · right
    by_cases c2 : isW τ W_or
    · left
      have e : sgT τ = 124 := by unfold sgT; rw [if_neg c1, if_pos c2]
      exact ⟨c1, c2, e, by rw [e]; decide⟩
    · right
      by_cases c3 : tS τ = 60 ∨ tS τ = 62 ∨ tS τ = 61 ∨ tS τ = 43 ∨ tS τ = 45 ∨ tS τ = 42 ∨ tS τ = 47 ∨ tS τ = 37
      · left
        have e : sgT τ = tS τ := by unfold sgT; rw [if_neg c1, if_neg c2, if_pos c3]
        refine ⟨c1, c2, e, ?_⟩
        rw [e]
        rcases c3 with c | c | c | c | c | c | c | c <;> rw [c] <;> decide
      · right
        exact ⟨c1, c2, by unfold sgT; rw [if_neg c1, if_neg c2, if_neg c3], c3⟩
/-- a sign is taken, a node is made -/
theorem c_opn (hT : txO T n) {y : yS} {u m d : Int} (h : CF G O T n R A F r y τ u m d) (hc : tS τ = 60 ∨ tS τ = 62 ∨ tS τ = 61 ∨ tS τ = 43 ∨ tS τ = 45 ∨ tS τ = 42 ∨ tS τ = 47 ∨ tS τ = 37) : ∃ y1, gI 8 4 y R = some (iI (tP τ)) ∧ fy_Reader_sign G y R (iI (tP τ)) = some (iI (tS τ)) ∧ fy_Reader_next G y R = some y1 ∧ CF G O T n R A F r y1 (tk T n (tE τ)) u m d ∧ yF O LF 0 0 y y1 := by
  have ht := h.1.2.2
  have hn := hT.1
  have hb := ht.1
  obtain ⟨y1, k1, k2, k3, -⟩ := h.adv hT (by omega)
  refine ⟨y1, by rw [gI_ok h.1.1.1.1, h.1.2.1.1], ?_, k1, k2, k3⟩
  have es := c_sign (G := G) hT h.1.1 (k := tP τ) (by omega) (by omega)
  have : hs T n (tP τ) = tS τ := by
    rcases ht.2.2.1 with z | z | z | z | ⟨z1, z2, z3⟩
    · omega
    · omega
    · omega
    · omega
    · exact (if_pos z2).trans z3
  rw [this] at es
  exact es
theorem hasRel_lo : ∀ {P S : List Int}, (∀ c ∈ P, ¬ c = 20 ∧ 5 ≤ tg c) → lowT 4 S → hasRel (P ++ S) = false := by
  intro P
  induction P with
  | nil =>
    intro S _ h
    cases S with
    | nil => rfl
    | cons c S =>
      show (if c = 20 then false else if 4 < tg c then hasRel S else decide (tg c = 4)) = false
      by_cases z : c = 20
      · rw [if_pos z]
      · rcases h with h | h
        · exact absurd h z
        · rw [if_neg z, if_neg (by omega)]
          exact decide_eq_false (by omega)
  | cons c P ih =>
    intro S hP h
    obtain ⟨h1, h2⟩ := hP c (by simp)
    show (if c = 20 then false else if 4 < tg c then hasRel (P ++ S) else decide (tg c = 4)) = false
    rw [if_neg h1, if_pos (by omega)]
    exact ih (fun c hc => hP c (by simp [hc])) h
theorem hasRel_hi : ∀ {P S : List Int} {c : Int}, (∀ c ∈ P, ¬ c = 20 ∧ 5 ≤ tg c) → ¬ c = 20 → tg c = 4 → hasRel (P ++ c :: S) = true := by
  intro P
  induction P with
  | nil =>
    intro S c _ h1 h2
    show (if c = 20 then false else if 4 < tg c then hasRel S else decide (tg c = 4)) = true
    rw [if_neg h1, if_neg (by omega)]
    exact decide_eq_true h2
  | cons e P ih =>
    intro S c hP h1 h2
    obtain ⟨h3, h4⟩ := hP e (by simp)
    show (if e = 20 then false else if 4 < tg e then hasRel (P ++ c :: S) else decide (tg e = 4)) = true
    rw [if_neg h3, if_pos (by omega)]
    exact ih (fun c hc => hP c (by simp [hc])) h1 h2
theorem J_term (hT : txO T n) {dm : Int} {rE rO : yS → Nat → Option ((Nat ⊕ Nat) × yS)} (hS : JN G O T n R A F r dm preN 7 (fy_Reader_unit G rE rO)) : JN G O T n R A F r dm (fun S τ => lowT 6 S ∧ preN S τ) 6 (fy_Reader_term G rE rO) := by
  refine J_level hT (b := fy_Reader_term_b5 G rE rO R) hS (by omega) (by omega) (fun S τ h => ⟨h.2, h.1⟩) (fun S τ c h1 h2 z => ?_) (fun τ S h1 h2 => ?_) (fun y τ u m d v hC => ?_) (fun y => rfl)
  · rcases z.2 with q | q
    · exact h2 q
    · omega
  · have := tg_b (sgT τ)
    rcases h2 with q | q
    · exact Or.inl q
    · exact Or.inr (Or.inl (by omega))
  · have ht := hC.1.2.2
    have t0 := hC.1.1.1.1
    have e1 := c_signHere (G := G) hT hC.1.1 hC.1.2.1 ht (c := 42) (by decide)
    have e2 := c_signHere (G := G) hT hC.1.1 hC.1.2.1 ht (c := 47) (by decide)
    have e3 := c_signHere (G := G) hT hC.1.1 hC.1.2.1 ht (c := 37) (by decide)
    have key : fy_Reader_term_b5 G rE rO R (v, y) = if tS τ = 42 ∨ tS τ = 47 ∨ tS τ = 37 then fy_Reader_term_j32 G rE rO y R v else some (.inr (.inl (v, y))) := by
      simp only [fy_Reader_term_b5, ck_ok t0, e1, e2, e3, iI_lit, iI_add, iI_sub, iI_mul, iI_neg, obs, if_true, if_false, Int.reduceEq, Int.reduceLE, Int.reduceLT, Int.reduceAdd, Int.reduceSub, Int.reduceMul, Int.reduceNeg, Nat.reduceEqDiff]
      by_cases c1 : tS τ = 42
      · simp only [if_pos c1, show ¬ iI 1 = iI 0 by decide, if_false, if_pos (show tS τ = 42 ∨ tS τ = 47 ∨ tS τ = 37 from Or.inl c1)]
      · simp only [if_neg c1, if_true]
        by_cases c2 : tS τ = 47
        · simp only [if_pos c2, show ¬ iI 1 = iI 0 by decide, if_false, if_pos (show tS τ = 42 ∨ tS τ = 47 ∨ tS τ = 37 from Or.inr (Or.inl c2))]
        · simp only [if_neg c2, if_true]
          by_cases c3 : tS τ = 37
          · simp only [if_pos c3, show ¬ iI 1 = iI 0 by decide, if_false, if_pos (show tS τ = 42 ∨ tS τ = 47 ∨ tS τ = 37 from Or.inr (Or.inr c3))]
          · simp only [if_neg c3, if_true]
            rw [if_neg (by omega)]
    rw [key]
    refine ⟨fun z => ?_, fun z => ?_⟩
    · have hc : (tS τ = 42 ∨ tS τ = 47 ∨ tS τ = 37) ∧ sgT τ = tS τ := by rcases sg_cases τ with q | q | q | q <;> omega
      obtain ⟨y1, k1, k2, k3, k4, k5⟩ := c_opn (G := G) hT hC (by omega)
      refine ⟨y1, k4, k5, ?_⟩
      rw [if_pos hc.1, hc.2]
      unfold fy_Reader_term_j32 mk
      rw [k1, obs, ck_ok t0, obs, k2, obs, obs, k3, obs, obs]
      simp only
      rw [ck_ok (k4.fr0 nO_F).1.1.1.1, obs]
    · rw [if_neg]
      intro q
      apply z
      rcases sg_cases τ with w | w | w | w <;> omega
theorem J_sum (hT : txO T n) {dm : Int} {rE rO : yS → Nat → Option ((Nat ⊕ Nat) × yS)} (hS : JN G O T n R A F r dm (fun S τ => lowT 6 S ∧ preN S τ) 6 (fy_Reader_term G rE rO)) : JN G O T n R A F r dm (fun S τ => lowT 5 S ∧ preN S τ) 5 (fy_Reader_sum G rE rO) := by
  refine J_level hT (b := fy_Reader_sum_b5 G rE rO R) hS (by omega) (by omega) (fun S τ h => ⟨⟨?_, h.2⟩, h.1⟩) (fun S τ c h1 h2 => ⟨Or.inr (by omega), fun z => ?_⟩) (fun τ S h1 h2 => ?_) (fun y τ u m d v hC => ?_) (fun y => rfl)
  · cases S with
    | nil => trivial
    | cons c S =>
      rcases h.1 with q | q
      · exact Or.inl q
      · exact Or.inr (by omega)
  · rcases z.2 with q | q
    · exact h2 q
    · omega
  · rcases h2 with q | q
    · exact Or.inl q
    · rcases h1 with w | w | w
      · exact Or.inl w
      · exact Or.inr (Or.inl (by omega))
      · omega
  · have ht := hC.1.2.2
    have t0 := hC.1.1.1.1
    have e1 := c_signHere (G := G) hT hC.1.1 hC.1.2.1 ht (c := 43) (by decide)
    have e2 := c_signHere (G := G) hT hC.1.1 hC.1.2.1 ht (c := 45) (by decide)
    have key : fy_Reader_sum_b5 G rE rO R (v, y) = if tS τ = 43 ∨ tS τ = 45 then fy_Reader_sum_j23 G rE rO y R v else some (.inr (.inl (v, y))) := by
      simp only [fy_Reader_sum_b5, ck_ok t0, e1, e2, iI_lit, iI_add, iI_sub, iI_mul, iI_neg, obs, if_true, if_false, Int.reduceEq, Int.reduceLE, Int.reduceLT, Int.reduceAdd, Int.reduceSub, Int.reduceMul, Int.reduceNeg, Nat.reduceEqDiff]
      by_cases c1 : tS τ = 43
      · simp only [if_pos c1, show ¬ iI 1 = iI 0 by decide, if_false, if_pos (show tS τ = 43 ∨ tS τ = 45 from Or.inl c1)]
      · simp only [if_neg c1, if_true]
        by_cases c2 : tS τ = 45
        · simp only [if_pos c2, show ¬ iI 1 = iI 0 by decide, if_false, if_pos (show tS τ = 43 ∨ tS τ = 45 from Or.inr c2)]
        · simp only [if_neg c2, if_true]
          rw [if_neg (by omega)]
    rw [key]
    refine ⟨fun z => ?_, fun z => ?_⟩
    · have hc : (tS τ = 43 ∨ tS τ = 45) ∧ sgT τ = tS τ := by rcases sg_cases τ with q | q | q | q <;> omega
      obtain ⟨y1, k1, k2, k3, k4, k5⟩ := c_opn (G := G) hT hC (by omega)
      refine ⟨y1, k4, k5, ?_⟩
      rw [if_pos hc.1, hc.2]
      unfold fy_Reader_sum_j23 mk
      rw [k1, obs, ck_ok t0, obs, k2, obs, obs, k3, obs, obs]
      simp only
      rw [ck_ok (k4.fr0 nO_F).1.1.1.1, obs]
    · rw [if_neg]
      intro q
      apply z
      rcases sg_cases τ with w | w | w | w <;> omega
theorem J_both (hT : txO T n) (hG : okW G) {dm : Int} {rE rO : yS → Nat → Option ((Nat ⊕ Nat) × yS)} (hS : JN G O T n R A F r dm (fun S _ => lowT 4 S) 3 (fy_Reader_one G rE rO)) : JN G O T n R A F r dm (fun S _ => lowT 2 S) 2 (fy_Reader_both G rE rO) := by
  refine J_level hT (b := fy_Reader_both_b5 G rE rO R) hS (by omega) (by omega) (fun S τ h => ⟨?_, h⟩) (fun S τ c h1 h2 => Or.inr (by omega)) (fun τ S h1 h2 => ?_) (fun y τ u m d v hC => ?_) (fun y => rfl)
  · cases S with
    | nil => trivial
    | cons c S =>
      rcases h with q | q
      · exact Or.inl q
      · exact Or.inr (by omega)
  · rcases h2 with q | q
    · exact Or.inl q
    · rcases h1 with w | w | w
      · exact Or.inl w
      · exact Or.inr (Or.inl (by omega))
      · exact Or.inr (Or.inr ⟨by omega, w.2⟩)
  · have ht := hC.1.2.2
    have t0 := hC.1.1.1.1
    obtain ⟨a, ca, wa⟩ := hG.2.2.1 13 (by omega)
    obtain ⟨e1, e2⟩ := c_comes hT hG hC.2.2.2.1 hC.1.1 hC.1.2.1 ht wa (cst_lt _ (by decide))
    refine ⟨fun z => ?_, fun z => ?_⟩
    · have hw : isW τ W_and ∧ sgT τ = 38 := by
        rcases sg_cases τ with q | q | q | q
        · exact ⟨q.1, q.2.1⟩
        · omega
        · omega
        · omega
      obtain ⟨y1, k1, k2, k3⟩ := e1 hw.1
      have tb := ht.1
      have hC1 := hC.rd k2 k3 (tk_ok (by omega) (by omega)).1
      refine ⟨y1, hC1, k2.yF hC.2.2.2.2.2.1, ?_⟩
      unfold fy_Reader_both_b5 mk
      rw [ca, obs, ck_ok t0, obs, k1, obs]
      simp only
      rw [if_neg (by decide), obs, ck_ok (hC1.fr0 nO_F).1.1.1.1, obs, hw.2]
      rfl
    · have hw : ¬ isW τ W_and := by
        intro q
        rcases sg_cases τ with w | w | w | w
        · exact z ⟨by omega, w.2.2⟩
        · exact w.1 q
        · exact w.1 q
        · exact w.1 q
      unfold fy_Reader_both_b5
      rw [ca, obs, ck_ok t0, obs, e2 hw, obs]
      rfl
theorem J_either (hT : txO T n) (hG : okW G) {dm : Int} {rE rO : yS → Nat → Option ((Nat ⊕ Nat) × yS)} (hS : JN G O T n R A F r dm (fun S _ => lowT 2 S) 2 (fy_Reader_both G rE rO)) : JN G O T n R A F r dm (fun S _ => lowT 1 S) 1 (fy_Reader_either G rE rO) := by
  refine J_level hT (b := fy_Reader_either_b5 G rE rO R) hS (by omega) (by omega) (fun S τ h => ⟨?_, h⟩) (fun S τ c h1 h2 => Or.inr (by omega)) (fun τ S h1 h2 => ?_) (fun y τ u m d v hC => ?_) (fun y => rfl)
  · cases S with
    | nil => trivial
    | cons c S =>
      rcases h with q | q
      · exact Or.inl q
      · exact Or.inr (by omega)
  · rcases h2 with q | q
    · exact Or.inl q
    · rcases h1 with w | w | w
      · exact Or.inl w
      · exact Or.inr (Or.inl (by omega))
      · exact Or.inr (Or.inr ⟨by omega, w.2⟩)
  · have ht := hC.1.2.2
    have t0 := hC.1.1.1.1
    obtain ⟨a, ca, wa⟩ := hG.2.2.1 14 (by omega)
    obtain ⟨e1, e2⟩ := c_comes hT hG hC.2.2.2.1 hC.1.1 hC.1.2.1 ht wa (cst_lt _ (by decide))
    refine ⟨fun z => ?_, fun z => ?_⟩
    · have hw : isW τ W_or ∧ sgT τ = 124 := by
        rcases sg_cases τ with q | q | q | q
        · omega
        · exact ⟨q.2.1, q.2.2.1⟩
        · omega
        · omega
      obtain ⟨y1, k1, k2, k3⟩ := e1 hw.1
      have tb := ht.1
      have hC1 := hC.rd k2 k3 (tk_ok (by omega) (by omega)).1
      refine ⟨y1, hC1, k2.yF hC.2.2.2.2.2.1, ?_⟩
      unfold fy_Reader_either_b5 mk
      rw [ca, obs, ck_ok t0, obs, k1, obs]
      simp only
      rw [if_neg (by decide), obs, ck_ok (hC1.fr0 nO_F).1.1.1.1, obs, hw.2]
      rfl
    · have hw : ¬ isW τ W_or := by
        intro q
        rcases sg_cases τ with w | w | w | w
        · have h1 := w.1.2
          have h2 := q.2
          rw [h1] at h2
          exact absurd h2 (by decide)
        · exact z ⟨by omega, w.2.2.2⟩
        · exact w.2.1 q
        · exact w.2.1 q
      unfold fy_Reader_either_b5
      rw [ca, obs, ck_ok t0, obs, e2 hw, obs]
      rfl
end M6

/-! LAYER 3, the component: guests -/
set_option maxRecDepth 100000
section E6
variable {G : ai_G} {O : Nat → Nat} {y : yS} {ρ : Rv} {x : Int → Int} {X r : Nat} {bd ld : Nat → Nat}
theorem c_good (h : XC G O y ρ x X r bd ld) (hw : wfR ρ) (hx : wfS ρ x) {b own other : Int} (h1 : 0 ≤ b) (h2 : b < rB ρ) (h3 : 0 ≤ own) (h4 : own < 8) (h5 : 0 ≤ other) (h6 : other < 8) : fy_B_good G y X (iI b) (iI own) (iI other) = some (iI (wor x b own other)) := by
  have hb := hw.2.2.1
  have hC := hw.1
  have hxb := hx.1 b h1 h2
  have a0 := s_a0 h.2.2.1 h.2.2.2 h1 (show b < 4 by omega)
  simp (disch := omega) only [fy_B_good, fy_B_good_j11, iI_lit, iI_add, iI_sub, iI_mul, iI_neg, obs, if_true, if_false, Int.reduceEq, Int.reduceLE, Int.reduceLT, Int.reduceAdd, Int.reduceSub, Int.reduceMul, Int.reduceNeg, Nat.reduceEqDiff, iI_le, iI_lt, iI_eq, x_1 h.1, s_0 h.2.2.1, a0, iabs_i, wor]
  by_cases c : own = other
  · rw [if_pos c, if_pos c]
  · rw [if_neg c, if_neg c]
theorem rstN_0 {a A b B p q : Int} {i : Nat} (h : rstN x a A b B p q i = 0) (j : Nat) : rstN x a A b B p q (i + j) = 0 := by
  induction j with
  | zero => exact h
  | succ j ih =>
    show rstN x a A b B p q (i + j + 1) = 0
    simp only [rstN]
    rw [if_neg (by rw [ih]; omega)]
theorem c_rests (h : XC G O y ρ x X r bd ld) (hw : wfR ρ) (hx : wfS ρ x) {a A b B p q : Int} (h1 : 0 ≤ a) (h2 : a < rB ρ) (h3 : 0 ≤ b) (h4 : b < rB ρ) (h5 : 0 ≤ A) (h6 : A < 256) (h7 : 0 ≤ B) (h8 : B < 256) (h9 : 0 ≤ p) (h10 : p < 8) (h11 : 0 ≤ q) (h12 : q < 8) : fy_B_rests G y X (iI a) (iI b) (iI p) (iI q) (iI A) (iI B) = some (iI (rstN x a A b B p q (rC ρ).toNat)) := by
  have hC := hw.1
  have : ∃ s, lp (fy_B_rests_b3 G y X (iI a) (iI b) (iI p) (iI q) (iI A) (iI B)) (iI 0) = some s ∧ Sum.elim (fun _ => iI 1) id s = iI (rstN x a A b B p q (rC ρ).toNat) := by
    refine lp_inv (fun i s => s = iI i ∧ rstN x a A b B p q i = 1) (rC ρ).toNat ?_ ?_ ⟨rfl, rfl⟩
    · rintro i s hi ⟨rfl, g2⟩
      have w1 := c_good h hw hx (b := a) (own := i) (other := q) h1 h2 (by omega) (by omega) h11 h12
      have w2 := c_good h hw hx (b := a) (own := p) (other := q) h1 h2 h9 h10 h11 h12
      have w3 := c_good h hw hx (b := b) (own := i) (other := p) h3 h4 (by omega) (by omega) h9 h10
      have w4 := c_good h hw hx (b := b) (own := q) (other := p) h3 h4 h11 h12 h9 h10
      have v1 := wor_b (other := q) hw hx h1 h2 (own := i) (by omega) (by omega)
      have v2 := wor_b (other := q) hw hx h1 h2 (own := p) h9 h10
      have v3 := wor_b (other := p) hw hx h3 h4 (own := i) (by omega) (by omega)
      have v4 := wor_b (other := p) hw hx h3 h4 (own := q) h11 h12
      have t1 := c_Bhas (S := A) (l := i) (by omega) (by omega) h5 h6
      have t2 := c_Bhas (S := B) (l := i) (by omega) (by omega) h7 h8
      have k1 := bit_01 A i
      have k2 := bit_01 B i
      have hstop : ¬ ((bit A i = 1 → ¬ wor x a p q < wor x a i q) ∧ (bit B i = 1 → ¬ wor x b q p < wor x b i p)) → iI 0 = iI (rstN x a A b B p q (rC ρ).toNat) := by
        intro hz
        have e0 : rstN x a A b B p q (i + 1) = 0 := by
          simp only [rstN]
          rw [if_neg (fun z => hz z.2)]
        have := rstN_0 e0 ((rC ρ).toNat - (i + 1))
        rw [show i + 1 + ((rC ρ).toNat - (i + 1)) = (rC ρ).toNat by omega] at this
        rw [this]
      have hgo : ((bit A i = 1 → ¬ wor x a p q < wor x a i q) ∧ (bit B i = 1 → ¬ wor x b q p < wor x b i p)) → rstN x a A b B p q (i + 1) = 1 := by
        intro hz
        simp only [rstN]
        rw [if_pos ⟨g2, hz⟩]
      have eB : fy_B_rests_j45 G y X (iI a) (iI b) (iI p) (iI q) (iI A) (iI B) (iI i) = if bit B i = 1 ∧ wor x b q p < wor x b i p then some (.inr (.inr (iI 0))) else some (.inl (iI ((i : Int) + 1))) := by
        simp (disch := omega) only [fy_B_rests_j45, t2, x_c h.1, w3, w4, iI_lit, iI_add, iI_sub, iI_mul, iI_neg, obs, if_true, if_false, Int.reduceEq, Int.reduceLE, Int.reduceLT, Int.reduceAdd, Int.reduceSub, Int.reduceMul, Int.reduceNeg, Nat.reduceEqDiff, iI_le, iI_lt, iI_eq]
        rcases k2 with k | k
        · rw [if_pos k, if_neg (by omega)]
        · rw [if_neg (by omega)]
          by_cases z : wor x b i p ≤ wor x b q p
          · rw [if_pos z, if_neg (by omega)]
          · rw [if_neg z, if_pos (by omega)]
      simp (disch := omega) only [fy_B_rests_b3, x_0 h.1, r_col h.2.1, iI_lit, iI_add, iI_sub, iI_mul, iI_neg, obs, if_true, if_false, Int.reduceEq, Int.reduceLE, Int.reduceLT, Int.reduceAdd, Int.reduceSub, Int.reduceMul, Int.reduceNeg, Nat.reduceEqDiff, iI_le, iI_lt, iI_eq, t1, x_c h.1, w1, w2, eB]
      rw [if_neg (by omega)]
      by_cases zA : bit A i = 1 ∧ wor x a p q < wor x a i q
      · rw [if_neg (by omega), if_pos zA.2]
        right
        exact ⟨_, rfl, hstop (fun z => z.1 zA.1 zA.2)⟩
      · have e9 : (if bit A i = 0 then (if bit B i = 1 ∧ wor x b q p < wor x b i p then some (.inr (.inr (iI 0))) else some (.inl (iI ((i : Int) + 1)))) else if wor x a p q < wor x a i q then some (.inr (.inr (iI 0))) else (if bit B i = 1 ∧ wor x b q p < wor x b i p then some (.inr (.inr (iI 0))) else some (.inl (iI ((i : Int) + 1)))) : Option (Int32 ⊕ (Unit ⊕ Int32))) = (if bit B i = 1 ∧ wor x b q p < wor x b i p then some (.inr (.inr (iI 0))) else some (.inl (iI ((i : Int) + 1)))) := by
          rcases k1 with k | k
          · rw [if_pos k]
          · rw [if_neg (by omega), if_neg (fun z => zA ⟨k, z⟩)]
        rw [e9]
        by_cases zB : bit B i = 1 ∧ wor x b q p < wor x b i p
        · rw [if_pos zB]
          right
          exact ⟨_, rfl, hstop (fun z => z.2 zB.1 zB.2)⟩
        · rw [if_neg zB]
          left
          exact ⟨_, rfl, rfl, hgo ⟨fun u v => zA ⟨u, v⟩, fun u v => zB ⟨u, v⟩⟩⟩
    · rintro s ⟨rfl, g2⟩
      refine ⟨.inl (), ?_, by rw [g2]; rfl⟩
      simp (disch := omega) only [fy_B_rests_b3, x_0 h.1, r_col h.2.1, iI_lit, iI_add, iI_sub, iI_mul, iI_neg, obs, if_true, if_false, Int.reduceEq, Int.reduceLE, Int.reduceLT, Int.reduceAdd, Int.reduceSub, Int.reduceMul, Int.reduceNeg, Nat.reduceEqDiff, iI_le, iI_lt, iI_eq]
      rw [if_pos (by omega)]
  obtain ⟨s, es, hs⟩ := this
  unfold fy_B_rests
  rw [show (0 : Int32) = iI 0 from rfl, es, obs, ← hs]
  cases s <;> rfl
def LG (O : Nat → Nat) (y : yS) (X : Nat) (g : Int × Int × Int) (u : yS) : Prop := yF O [2, 24, 104, 213, 10] 0 0 y u ∧ ((g.1 = 0 ∧ yf u X 13 = iI 0) ∨ (¬ g.1 = 0 ∧ yf u X 13 = iI 2 ∧ ya u (X + 26) 0 = iI g.2.1 ∧ ya u (X + 26) 1 = iI g.2.2))
theorem c_guests (h : XC G O y ρ x X r bd ld) (hw : wfR ρ) (hx : wfS ρ x) {b c : Int} (h1 : -2147483648 ≤ b) (h2 : b < 2147483648) (h3 : -2147483648 ≤ c) (h4 : c < 2147483648) : ∃ y', fy_B_guests G y X (iI b) (iI c) = some (iI (if (0 ≤ b ∧ b < rB ρ) ∧ (0 ≤ c ∧ c < rB ρ) ∧ ¬ b = c ∧ ¬ landS ρ x b = 0 ∧ ¬ landS ρ x c = 0 then (gsX ρ x b (landS ρ x b) c (landS ρ x c) (rC ρ).toNat).1 else -1), y') ∧ yF O [2, 24, 104, 213, 10] 0 0 y y' ∧ (if ((0 ≤ b ∧ b < rB ρ) ∧ (0 ≤ c ∧ c < rB ρ) ∧ ¬ b = c ∧ ¬ landS ρ x b = 0 ∧ ¬ landS ρ x c = 0) ∧ ¬ (gsX ρ x b (landS ρ x b) c (landS ρ x c) (rC ρ).toNat).1 = 0 then yf y' X 13 = iI 2 ∧ ya y' (X + 26) 0 = iI (gsX ρ x b (landS ρ x b) c (landS ρ x c) (rC ρ).toNat).2.1 ∧ ya y' (X + 26) 1 = iI (gsX ρ x b (landS ρ x b) c (landS ρ x c) (rC ρ).toNat).2.2 else yf y' X 13 = iI 0) := by
  have hC := hw.1
  have f0 : yF O [2, 24, 104, 213, 10] 0 0 y (sF y X 13 (iI 0)) := yF.refl.sf (by rw [x_lb h.1]; rfl)
  have hh := h.fr f0 rfl
  have z0 : yf (sF y X 13 (iI 0)) X 13 = iI 0 := by rw [sF_get, if_pos ⟨rfl, rfl⟩]
  unfold fy_B_guests
  rw [show (0 : Int32) = iI 0 from rfl, x_wI h.1 rfl, obs, x_c hh.1, obs, c_isBoard hh.1 hh.2.1 hw h1 h2, obs]
  by_cases hA : 0 ≤ b ∧ b < rB ρ
  rotate_left
  · refine ⟨sF y X 13 (iI 0), ?_, f0, by rw [if_neg (fun z => hA z.1.1)]; exact z0⟩
    rw [if_neg (show ¬ ((0 ≤ b ∧ b < rB ρ) ∧ (0 ≤ c ∧ c < rB ρ) ∧ ¬ b = c ∧ ¬ landS ρ x b = 0 ∧ ¬ landS ρ x c = 0) from fun z => hA z.1)]
    simp only [if_neg hA, iI_lit, iI_add, iI_sub, iI_mul, iI_neg, obs, if_true, if_false, Int.reduceEq, Int.reduceLE, Int.reduceLT, Int.reduceAdd, Int.reduceSub, Int.reduceMul, Int.reduceNeg, Nat.reduceEqDiff]
  simp only [if_pos hA, iI_lit, iI_add, iI_sub, iI_mul, iI_neg, obs, if_true, if_false, Int.reduceEq, Int.reduceLE, Int.reduceLT, Int.reduceAdd, Int.reduceSub, Int.reduceMul, Int.reduceNeg, Nat.reduceEqDiff, show ¬ iI 1 = iI 0 by decide, x_c hh.1, c_isBoard hh.1 hh.2.1 hw h3 h4]
  by_cases hB : 0 ≤ c ∧ c < rB ρ
  rotate_left
  · refine ⟨sF y X 13 (iI 0), ?_, f0, by rw [if_neg (fun z => hB z.1.2.1)]; exact z0⟩
    rw [if_neg (show ¬ ((0 ≤ b ∧ b < rB ρ) ∧ (0 ≤ c ∧ c < rB ρ) ∧ ¬ b = c ∧ ¬ landS ρ x b = 0 ∧ ¬ landS ρ x c = 0) from fun z => hB z.2.1)]
    simp only [if_neg hB, iI_lit, iI_add, iI_sub, iI_mul, iI_neg, obs, if_true, if_false, Int.reduceEq, Int.reduceLE, Int.reduceLT, Int.reduceAdd, Int.reduceSub, Int.reduceMul, Int.reduceNeg, Nat.reduceEqDiff]
  have hb := hw.2.2.1
  simp (disch := omega) only [if_pos hB, iI_lit, iI_add, iI_sub, iI_mul, iI_neg, obs, if_true, if_false, Int.reduceEq, Int.reduceLE, Int.reduceLT, Int.reduceAdd, Int.reduceSub, Int.reduceMul, Int.reduceNeg, Nat.reduceEqDiff, iI_le, iI_lt, iI_eq, show ¬ iI 1 = iI 0 by decide, x_c hh.1]
  by_cases q1 : b = c
  · refine ⟨sF y X 13 (iI 0), ?_, f0, by rw [if_neg (fun z => z.1.2.2.1 q1)]; exact z0⟩
    rw [if_pos q1, if_neg (fun z => z.2.2.1 q1)]
  obtain ⟨y1, e1, f1⟩ := c_landingsOf hh hw hx hA.1 hA.2
  have hh1 := hh.fr f1 rfl
  obtain ⟨y2, e2, f2⟩ := c_landingsOf hh1 hw hx hB.1 hB.2
  have hh2 := hh1.fr f2 rfl
  have b1 : 0 ≤ landS ρ x b ∧ landS ρ x b < 256 := landN_b hw hx hA.1 hA.2 _
  have b2 : 0 ≤ landS ρ x c ∧ landS ρ x c < 256 := landN_b hw hx hB.1 hB.2 _
  have f02 : yF O [2, 24, 104, 213, 10] 0 0 y y2 := (f0.t0 (f1.m0 rfl)).t0 (f2.m0 rfl)
  have z2 : yf y2 X 13 = iI 0 := by rw [x_f0 hh1.1 f2 13 rfl, x_f0 hh.1 f1 13 rfl]; exact z0
  simp (disch := omega) only [if_neg q1, e1, e2, iI_lit, iI_add, iI_sub, iI_mul, iI_neg, obs, if_true, if_false, Int.reduceEq, Int.reduceLE, Int.reduceLT, Int.reduceAdd, Int.reduceSub, Int.reduceMul, Int.reduceNeg, Nat.reduceEqDiff, iI_le, iI_lt, iI_eq, x_c hh1.1]
  generalize landS ρ x b = A at *
  generalize landS ρ x c = B at *
  by_cases q2 : A = 0
  · refine ⟨y2, ?_, f02, by rw [if_neg (fun z => z.1.2.2.2.1 q2)]; exact z2⟩
    rw [if_pos q2, if_neg (fun z => z.2.2.2.1 q2)]
  by_cases q3 : B = 0
  · refine ⟨y2, ?_, f02, by rw [if_neg (fun z => z.1.2.2.2.2 q3)]; exact z2⟩
    rw [if_neg q2, if_pos q3, if_neg (fun z => z.2.2.2.2 q3)]
  rw [if_neg q2, if_neg q3]
  -- the columns of the other
  have l1 : ∀ (p : Nat) (g : Int × Int × Int) (u : yS), (p : Int) < rC ρ → 0 ≤ g.1 → g.1 ≤ 100 → LG O y X g u → ∃ q, lp (fy_B_guests_b73 G X (iI b) (iI c) (iI A) (iI B) (iI p)) (iI g.1, iI 0, u) = some q ∧ (q.1 = iI (gsY ρ x b A c B p g (rC ρ).toNat).1 ∧ LG O y X (gsY ρ x b A c B p g (rC ρ).toNat) q.2) := by
    intro p g u hp g0 g100 hu0
    refine lp_inv (fun i q => q.1 = iI (gsY ρ x b A c B p g i).1 ∧ q.2.1 = iI i ∧ LG O y X (gsY ρ x b A c B p g i) q.2.2) (rC ρ).toNat ?_ ?_ ⟨rfl, rfl, show LG O y X (gsY ρ x b A c B p g 0) u from hu0⟩
    · rintro i ⟨n, k, w⟩ hi ⟨g1, g2, g3⟩
      simp only at g1 g2 g3
      subst g1 g2
      have hu := h.fr g3.1 rfl
      have hgb := gsY_b (ρ := ρ) (x := x) (a := b) (A := A) (b := c) (B := B) (p := p) g0 i
      have t1 := c_Bhas (S := A) (l := p) (by omega) (by omega) b1.1 b1.2
      have t2 := c_Bhas (S := B) (l := i) (by omega) (by omega) b2.1 b2.2
      have k1 := bit_01 A p
      have k2 := bit_01 B i
      have er := c_rests hu hw hx (p := p) (q := i) hA.1 hA.2 hB.1 hB.2 b1.1 b1.2 b2.1 b2.2 (by omega) (by omega) (by omega) (by omega)
      have kr := rstN_01 (x := x) (a := b) (A := A) (b := c) (B := B) (p := p) (q := i) (rC ρ).toNat
      left
      simp (disch := omega) only [fy_B_guests_b73, x_0 hu.1, r_col hu.2.1, iI_lit, iI_add, iI_sub, iI_mul, iI_neg, obs, if_true, if_false, Int.reduceEq, Int.reduceLE, Int.reduceLT, Int.reduceAdd, Int.reduceSub, Int.reduceMul, Int.reduceNeg, Nat.reduceEqDiff, iI_le, iI_lt, iI_eq, t1, t2, x_c hu.1, er, gsY]
      rw [if_neg (by omega)]
      by_cases hz : bit A p = 1 ∧ bit B i = 1 ∧ rstN x b A c B p i (rC ρ).toNat = 1
      · rw [if_neg (by omega), if_neg (by omega), if_neg (by omega), if_pos hz]
        by_cases hn : (gsY ρ x b A c B p g i).1 = 0
        · rw [if_pos (by omega), if_pos hn]
          have w0 : wA w (X + 26) (iI 0) (iI p) = some (yw w (X + 26) 0 (iI p)) := wA_n 7 (x_t26 hu.1) (by omega) (by omega) (by omega)
          have w1 : wA (yw w (X + 26) 0 (iI p)) (X + 26) (iI 1) (iI i) = some (yw (yw w (X + 26) 0 (iI p)) (X + 26) 1 (iI i)) := wA_n 7 (x_t26 hu.1) (by omega) (by omega) (by omega)
          have S1 : xS O (yw w (X + 26) 0 (iI p)) X r := hu.1.fr (yF.refl.w (L := [10]) (by rw [x_o26 h.1]; rfl)) rfl
          simp only [x_11 hu.1, w0, x_11 S1, w1, x_wI hu.1 (y' := yw (yw w (X + 26) 0 (iI p)) (X + 26) 1 (iI i)) rfl, obs]
          refine ⟨_, rfl, by rw [hn]; rfl, rfl, ((g3.1.w (by rw [x_o26 h.1]; rfl)).w (by rw [x_o26 h.1]; rfl)).sf (by rw [x_lb h.1]; rfl), Or.inr ⟨by show ¬ (1 : Int) = 0; omega, by rw [sF_get, if_pos ⟨rfl, rfl⟩], ?_, ?_⟩⟩
          · show ya (yw (yw w (X + 26) 0 (iI p)) (X + 26) 1 (iI i)) (X + 26) 0 = _
            rw [yw_get, if_neg (by omega), yw_get, if_pos ⟨rfl, rfl⟩]
          · show ya (yw (yw w (X + 26) 0 (iI p)) (X + 26) 1 (iI i)) (X + 26) 1 = _
            rw [yw_get, if_pos ⟨rfl, rfl⟩]
        · rw [if_neg (by omega), if_neg hn]
          refine ⟨_, rfl, rfl, rfl, g3.1, Or.inr ?_⟩
          rcases g3.2 with k | k
          · exact absurd k.1 hn
          · exact ⟨by show ¬ (gsY ρ x b A c B p g i).1 + 1 = 0; omega, k.2⟩
      · rw [if_neg hz]
        have e9 : ∀ z : Option ((Int32 × Int32 × yS) ⊕ (Int32 × yS)), (if bit A p = 0 then some (.inl (iI (gsY ρ x b A c B p g i).1, iI ((i : Int) + 1), w)) else if bit B i = 0 then some (.inl (iI (gsY ρ x b A c B p g i).1, iI ((i : Int) + 1), w)) else if rstN x b A c B p i (rC ρ).toNat = 0 then some (.inl (iI (gsY ρ x b A c B p g i).1, iI ((i : Int) + 1), w)) else z) = some (.inl (iI (gsY ρ x b A c B p g i).1, iI ((i : Int) + 1), w)) := by
          intro z
          rcases k1 with k | k
          · rw [if_pos k]
          · rw [if_neg (by omega)]
            rcases k2 with k' | k'
            · rw [if_pos k']
            · rw [if_neg (by omega), if_pos (by omega)]
        rw [e9]
        exact ⟨_, rfl, rfl, rfl, g3⟩
    · rintro ⟨n, k, w⟩ ⟨g1, g2, g3⟩
      simp only at g1 g2 g3
      subst g1 g2
      have hu := h.fr g3.1 rfl
      refine ⟨(iI (gsY ρ x b A c B p g (rC ρ).toNat).1, w), ?_, rfl, g3⟩
      simp (disch := omega) only [fy_B_guests_b73, x_0 hu.1, r_col hu.2.1, iI_lit, iI_add, iI_sub, iI_mul, iI_neg, obs, if_true, if_false, Int.reduceEq, Int.reduceLE, Int.reduceLT, Int.reduceAdd, Int.reduceSub, Int.reduceMul, Int.reduceNeg, Nat.reduceEqDiff, iI_le, iI_lt, iI_eq]
      rw [if_pos (by omega)]
  have l2 : ∃ q, lp (fy_B_guests_b58 G X (iI b) (iI c) (iI A) (iI B)) (iI 0, iI 0, y2) = some q ∧ (q.1 = iI (gsX ρ x b A c B (rC ρ).toNat).1 ∧ LG O y X (gsX ρ x b A c B (rC ρ).toNat) q.2) := by
    refine lp_inv (fun i q => q.1 = iI (gsX ρ x b A c B i).1 ∧ q.2.1 = iI i ∧ LG O y X (gsX ρ x b A c B i) q.2.2) (rC ρ).toNat ?_ ?_ ⟨rfl, rfl, f02, Or.inl ⟨rfl, z2⟩⟩
    · rintro i ⟨n, k, w⟩ hi ⟨g1, g2, g3⟩
      simp only at g1 g2 g3
      subst g1 g2
      have hu := h.fr g3.1 rfl
      have hgb := gsX_b (x := x) (a := b) (A := A) (b := c) (B := B) hw i
      obtain ⟨q, eq, q1, q2⟩ := l1 i (gsX ρ x b A c B i) w (by omega) hgb.1 (by omega) g3
      left
      refine ⟨(iI (gsX ρ x b A c B (i + 1)).1, iI ((i : Int) + 1), q.2), ?_, rfl, rfl, q2⟩
      simp (disch := omega) only [fy_B_guests_b58, x_0 hu.1, r_col hu.2.1, iI_lit, iI_add, iI_sub, iI_mul, iI_neg, obs, if_true, if_false, Int.reduceEq, Int.reduceLE, Int.reduceLT, Int.reduceAdd, Int.reduceSub, Int.reduceMul, Int.reduceNeg, Nat.reduceEqDiff, iI_le, iI_lt, iI_eq]
      rw [if_neg (by omega), eq, obs, q1]
      rfl
    · rintro ⟨n, k, w⟩ ⟨g1, g2, g3⟩
      simp only at g1 g2 g3
      subst g1 g2
      have hu := h.fr g3.1 rfl
      refine ⟨(iI (gsX ρ x b A c B (rC ρ).toNat).1, w), ?_, rfl, g3⟩
      simp (disch := omega) only [fy_B_guests_b58, x_0 hu.1, r_col hu.2.1, iI_lit, iI_add, iI_sub, iI_mul, iI_neg, obs, if_true, if_false, Int.reduceEq, Int.reduceLE, Int.reduceLT, Int.reduceAdd, Int.reduceSub, Int.reduceMul, Int.reduceNeg, Nat.reduceEqDiff, iI_le, iI_lt, iI_eq]
      rw [if_pos (by omega)]
  obtain ⟨q, eq, g1, g2⟩ := l2
  refine ⟨q.2, ?_, g2.1, ?_⟩
  · rw [eq, obs, g1, if_pos ⟨hA, hB, q1, q2, q3⟩]
  · rcases g2.2 with k | k
    · rw [if_neg (fun z => z.2 k.1)]
      exact k.2
    · rw [if_pos ⟨⟨hA, hB, q1, q2, q3⟩, k.1⟩]
      exact k.2
end E6

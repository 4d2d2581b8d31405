/-! LAYER 3, the component: meet -/
set_option maxRecDepth 100000
def arY (y : yS) (a : Nat) (n : Int) (f : Int → Int) : Prop := ∀ z, 0 ≤ z → z < n → ya y a z.toNat = iI (f z)
theorem aL_n {G : ai_G} {y : yS} {a t n : Nat} (ht : yt y a = some (.inl (t, n))) (h : t < 7) : aL G y a = some (iI n) := by
  unfold aL
  rw [ht]
  simp only [iI_ofNat]
  rw [if_pos h]
theorem wB_b {y : yS} {a n : Nat} {z v : Int} (ht : yt y a = some (.inl (1, n))) (h1 : 0 ≤ z) (h2 : z < n) (h3 : n < 2147483648) (hv : v = 0 ∨ v = 1) : wB y a (iI z) (iI v) = some (yw y a z.toNat (iI v)) := by
  unfold wB
  rw [ht]
  simp only
  rw [if_pos ⟨Or.inl trivial, inb_i h1 h2 h3⟩, iI_clamp h1 (by omega)]
  have : vp_nar (ai_ek 1) (iI v) = iI v := by rcases hv with rfl | rfl <;> decide
  rw [this]
  rfl
theorem cp_b {n0 n1 : Nat} {y : yS} {a b : Nat} {z : Int} {f : Int → Int} (h0 : yt y b = some (.inl (1, n0))) (h1 : yt y a = some (.inl (1, n1))) (h2 : 0 ≤ z) (h3 : z ≤ n0) (h4 : z ≤ n1) (h5 : z < 2147483648) (ha : arY y b z f) (hf : f01 f) : cpI y b (iI 0) a (iI 0) (iI z) = some (cA y b a z.toNat) := by
  have e0 : (iI 0).toNatClampNeg = 0 := by decide
  have ek : (iI z).toNatClampNeg = z.toNat := iI_clamp h2 h5
  unfold cpI
  rw [h0, h1]
  simp only [e0, ek, Nat.zero_add]
  rw [if_pos]
  · rfl
  · refine ⟨?_, trivial, by decide, by omega, by omega, List.all_eq_true.mpr (fun i hi => ?_)⟩
    · rw [i0]
      simp (disch := omega) only [iI_lt]
      omega
    · have := List.mem_range.mp hi
      have e : ya y b i = iI (f i) := ha i (by omega) (by omega)
      rw [e]
      rcases hf i with k | k <;> rw [k] <;> decide
section E5
variable {G : ai_G} {O : Nat → Nat} {y : yS} {ρ : Rv} {x : Int → Int} {X r : Nat} {bd ld : Nat → Nat}
theorem arY.fr {L : List Nat} {c d : Nat} {y1 : yS} {a : Nat} {n : Int} {f : Int → Int} (h : arY y a n f) (g : yF O L c d y y1) (ha : a < yn y) (hl : L.contains (O a) = false) : arY y1 a n f := by
  intro z z1 z2
  rw [g.arr ha hl]
  exact h z z1 z2
theorem c_columnBy (h : XC G O y ρ x X r bd ld) (hw : wfR ρ) {c k t : Int} (h1 : 0 ≤ c) (h2 : c < 8) (h3 : 0 ≤ k) (h4 : k < rR ρ) (h5 : -1 ≤ t) (h6 : t ≤ 1) : fy_B_columnBy G y X (iI c) (iI k) (iI t) = some (iI (if rIr ρ (8 * (k + 1) + colBy ρ c k t 1) = 0 then colBy ρ c k t 1 else -1)) := by
  have hC := hw.1
  have hr := hw.2.1
  have hq := hw.2.2.2.2.2.2.1 (8 * k + c) (by omega) (by omega)
  have hcb := colBy_b hw c k t 1
  have hir := hw.2.2.2.2.2.2.2.2.1 (8 * (k + 1) + colBy ρ c k t 1) (by omega) (by omega)
  have ew : fy_B_within (iI (c + t + rCu ρ (8 * k + c))) (iI (rC ρ - 1)) = some (iI (colBy ρ c k t 1)) := by
    rw [c_within (by omega) (by omega) (by omega) (by omega)]
    unfold colBy
    rw [Int.one_mul]
  have e1 := r_cu h.2.1 (z := 8 * k + c) (by omega) (by omega)
  have e2 := r_ir h.2.1 (z := 8 * (k + 1) + colBy ρ c k t 1) (by omega) (by omega)
  simp (disch := omega) only [fy_B_columnBy, x_0 h.1, r_2 h.2.1, r_c h.2.1, c_cell, e1, r_col h.2.1, iI_lit, iI_add, iI_sub, iI_mul, iI_neg, obs, if_true, if_false, Int.reduceEq, Int.reduceLE, Int.reduceLT, Int.reduceAdd, Int.reduceSub, Int.reduceMul, Int.reduceNeg, Nat.reduceEqDiff, ew, r_4 h.2.1, e2, iI_le, iI_lt, iI_eq]
  rcases hir with q | q
  · rw [if_pos q, if_pos q]
  · rw [if_neg (by omega), if_neg (by omega)]
theorem c_side (h : XC G O y ρ x X r bd ld) {f : Int → Int} (hf : f01 f) (ha : arY y (X + 31) 64 f) : fy_B_areSideBySide G y X = some (iI (besN f 64)) := by
  have : ∃ q, lp (fy_B_areSideBySide_b2 G y X) (iI 0) = some q ∧ Sum.elim (fun _ => iI 0) id q = iI (besN f 64) := by
    refine lp_inv (fun i q => q = iI i ∧ besN f i = 0) 64 ?_ ?_ ⟨rfl, rfl⟩
    · rintro i q hi ⟨rfl, g2⟩
      have hfi := hf i
      have e1 := ha i (by omega) (by omega)
      have e2 := aB_n (G := G) 1 64 (x_t31 h.1) (Or.inl rfl) (z := i) (by omega) (by omega) (by omega)
      rw [e1] at e2
      have hp : -2147483648 < (i : Int) / 8 - (i : Int) % 8 := by omega
      have hp2 : (i : Int) / 8 - (i : Int) % 8 < 2147483648 := by omega
      have hab : 0 ≤ absI ((i : Int) / 8 - (i : Int) % 8) ∧ absI ((i : Int) / 8 - (i : Int) % 8) < 100 := by unfold absI; split <;> omega
      have hsuc : besN f (i + 1) = if f i = 0 then 0 else if absI ((i : Int) / 8 - (i : Int) % 8) = 1 then 1 else 0 := by
        simp only [besN]
        rw [if_pos g2]
      have hmono : ∀ j : Nat, besN f (i + 1) = 1 → besN f (i + 1 + j) = 1 := by
        intro j hj
        induction j with
        | zero => exact hj
        | succ j ih =>
          show besN f (i + 1 + j + 1) = 1
          simp only [besN]
          rw [if_neg (by omega)]
      simp (disch := omega) only [fy_B_areSideBySide_b2, x_18 h.1, aL_n (x_t31 h.1), iI_lit, iI_add, iI_sub, iI_mul, iI_neg, obs, if_true, if_false, Int.reduceEq, Int.reduceLE, Int.reduceLT, Int.reduceAdd, Int.reduceSub, Int.reduceMul, Int.reduceNeg, Nat.reduceEqDiff, iI_le, iI_lt, iI_eq, e2, dv_i, rm_i, iabs_i hp hp2]
      rw [if_neg (by omega)]
      rcases hf i with q0 | q0
      · rw [if_pos q0]
        left
        exact ⟨_, rfl, rfl, by rw [hsuc, if_pos q0]⟩
      · rw [if_neg (by omega)]
        by_cases q1 : absI ((i : Int) / 8 - (i : Int) % 8) = 1
        · rw [if_pos q1]
          right
          refine ⟨_, rfl, ?_⟩
          have := hmono (63 - i) (by rw [hsuc, if_neg (by omega), if_pos q1])
          rw [show i + 1 + (63 - i) = 64 by omega] at this
          rw [this]
          rfl
        · rw [if_neg q1]
          left
          exact ⟨_, rfl, rfl, by rw [hsuc, if_neg (by omega), if_neg q1]⟩
    · rintro q ⟨rfl, g2⟩
      refine ⟨.inl (), ?_, by rw [g2]; rfl⟩
      simp (disch := omega) only [fy_B_areSideBySide_b2, x_18 h.1, aL_n (x_t31 h.1), iI_lit, iI_add, iI_sub, iI_mul, iI_neg, obs, if_true, if_false, Int.reduceEq, Int.reduceLE, Int.reduceLT, Int.reduceAdd, Int.reduceSub, Int.reduceMul, Int.reduceNeg, Nat.reduceEqDiff, iI_le, iI_lt, iI_eq]
      rw [if_pos (by omega)]
  obtain ⟨q, eq, hq⟩ := this
  unfold fy_B_areSideBySide
  rw [show (0 : Int32) = iI 0 from rfl, eq, obs, ← hq]
  cases q <;> rfl
theorem c_goMeet (h : XC G O y ρ x X r bd ld) (hw : wfR ρ) {k : Int} (h1 : 0 ≤ k) (h2 : k < rR ρ) {f : Int → Int} (hf : f01 f) (ha : arY y (X + 31) 64 f) : ∃ y', fy_B_goMeet G y X (iI k) = some y' ∧ yF O [15, 16] 0 0 y y' ∧ arY y' (X + 31) 64 (bothN ρ k f 64) := by
  have hr := hw.2.1
  have hC := hw.1
  have hXn := h.1.1.2.1
  have o31 : ∀ L : List Nat, L.contains 15 = false → L.contains (O (X + 31)) = false := fun L hL => by rw [x_o31 h.1]; exact hL
  have l1 : ∃ q, lp (fy_B_goMeet_b2 G X (iI k)) (iI 0, y) = some q ∧ (yF O [16] 0 0 y q ∧ arY q (X + 32) 64 (fun _ => 0)) := by
    refine lp_inv (fun i q => q.1 = iI i ∧ yF O [16] 0 0 y q.2 ∧ arY q.2 (X + 32) i (fun _ => 0)) 64 ?_ ?_ ⟨rfl, yF.refl, fun z z1 z2 => by omega⟩
    · rintro i ⟨j, u⟩ hi ⟨g1, g2, g3⟩
      simp only at g1 g2 g3
      subst g1
      have hu := h.fr g2 rfl
      have ew := wB_b (v := 0) (x_t32 hu.1) (z := i) (by omega) (by omega) (by omega) (Or.inl rfl)
      left
      refine ⟨(iI ((i : Int) + 1), yw u (X + 32) (i : Int).toNat (iI 0)), ?_, rfl, g2.w (by rw [x_o32 h.1]; rfl), fun z z1 z2 => ?_⟩
      · simp (disch := omega) only [fy_B_goMeet_b2, x_19 hu.1, aL_n (x_t32 hu.1), iI_lit, iI_add, iI_sub, iI_mul, iI_neg, obs, if_true, if_false, Int.reduceEq, Int.reduceLE, Int.reduceLT, Int.reduceAdd, Int.reduceSub, Int.reduceMul, Int.reduceNeg, Nat.reduceEqDiff, iI_le, iI_lt, iI_eq, ew]
        rw [if_neg (by omega)]
      · rw [yw_get]
        split
        · rfl
        · exact g3 z z1 (by omega)
    · rintro ⟨j, u⟩ ⟨g1, g2, g3⟩
      simp only at g1 g2 g3
      subst g1
      have hu := h.fr g2 rfl
      refine ⟨u, ?_, g2, g3⟩
      simp (disch := omega) only [fy_B_goMeet_b2, x_19 hu.1, aL_n (x_t32 hu.1), iI_lit, iI_add, iI_sub, iI_mul, iI_neg, obs, if_true, if_false, Int.reduceEq, Int.reduceLE, Int.reduceLT, Int.reduceAdd, Int.reduceSub, Int.reduceMul, Int.reduceNeg, Nat.reduceEqDiff, iI_le, iI_lt, iI_eq]
      rw [if_pos (by omega)]
  obtain ⟨y1, e1, f1, a1⟩ := l1
  have l2 : ∀ (v : Nat) (u : yS) (g : Int → Int), v < 64 → yF O [16] 0 0 y u → arY u (X + 32) 64 g → f01 g → ∃ q, lp (fy_B_goMeet_b37 G X (iI k) (iI v)) (iI 0, u) = some q ∧ (yF O [16] 0 0 y q ∧ arY q (X + 32) 64 (if f v = 0 then g else waysN ρ k v g 9)) := by
    intro v u g hv hfu h32 hg
    have eB : ∀ w, yF O [16] 0 0 y w → aB G w (X + 31) (iI v) = some (iI (f v)) := fun w fw => by
      have hw1 := h.fr fw rfl
      rw [aB_n (G := G) 1 64 (x_t31 hw1.1) (Or.inl rfl) (z := v) (by omega) (by omega) (by omega)]
      exact congrArg some ((ha.fr fw (by omega) (o31 _ rfl)) v (by omega) (by omega))
    by_cases h0 : f v = 0
    · refine ⟨u, lp_out ?_, hfu, by rw [if_pos h0]; exact h32⟩
      have hu := h.fr hfu rfl
      have e3 := eB u hfu
      rw [h0] at e3
      simp (disch := omega) only [fy_B_goMeet_b37, x_18 hu.1, e3, iI_lit, iI_add, iI_sub, iI_mul, iI_neg, obs, if_true, if_false, Int.reduceEq, Int.reduceLE, Int.reduceLT, Int.reduceAdd, Int.reduceSub, Int.reduceMul, Int.reduceNeg, Nat.reduceEqDiff]
    · have hf1 : f v = 1 := by rcases hf v with q | q <;> omega
      rw [if_neg h0]
      refine lp_inv (fun i q => q.1 = iI i ∧ yF O [16] 0 0 y q.2 ∧ arY q.2 (X + 32) 64 (waysN ρ k v g i)) 9 ?_ ?_ ⟨rfl, hfu, h32⟩
      · rintro i ⟨j, w⟩ hi ⟨g1, g2, g3⟩
        simp only at g1 g2 g3
        subst g1
        have hu := h.fr g2 rfl
        have e3 := eB w g2
        rw [hf1] at e3
        have c1 := colBy_b hw ((v : Int) / 8) k ((i : Int) / 3 - 1) 1
        have c2 := colBy_b hw ((v : Int) % 8) k ((i : Int) % 3 - 1) 1
        have e4 := c_columnBy hu hw (c := (v : Int) / 8) (k := k) (t := (i : Int) / 3 - 1) (by omega) (by omega) h1 h2 (by omega) (by omega)
        have e5 := c_columnBy hu hw (c := (v : Int) % 8) (k := k) (t := (i : Int) % 3 - 1) (by omega) (by omega) h1 h2 (by omega) (by omega)
        have ew := wB_b (v := 1) (x_t32 hu.1) (z := 8 * colBy ρ ((v : Int) / 8) k ((i : Int) / 3 - 1) 1 + colBy ρ ((v : Int) % 8) k ((i : Int) % 3 - 1) 1) (by omega) (by omega) (by omega) (Or.inr rfl)
        left
        simp (disch := omega) only [fy_B_goMeet_b37, x_18 hu.1, e3, iI_lit, iI_add, iI_sub, iI_mul, iI_neg, obs, if_true, if_false, Int.reduceEq, Int.reduceLE, Int.reduceLT, Int.reduceAdd, Int.reduceSub, Int.reduceMul, Int.reduceNeg, Nat.reduceEqDiff, show ¬ iI 1 = iI 0 by decide, iI_le, iI_lt, iI_eq, dv_i, rm_i, x_c hu.1, e4, e5, x_19 hu.1, waysN, wayF]
        rw [if_neg (by omega)]
        by_cases q1 : rIr ρ (8 * (k + 1) + colBy ρ ((v : Int) / 8) k ((i : Int) / 3 - 1) 1) = 0
        · simp (disch := omega) only [if_pos q1, iI_le, iI_lt, iI_eq]
          rw [if_neg (by omega)]
          by_cases q2 : rIr ρ (8 * (k + 1) + colBy ρ ((v : Int) % 8) k ((i : Int) % 3 - 1) 1) = 0
          · simp (disch := omega) only [if_pos q2, iI_le, iI_lt, iI_eq, iI_lit, iI_add, iI_sub, iI_mul, iI_neg, obs, if_true, if_false, Int.reduceEq, Int.reduceLE, Int.reduceLT, Int.reduceAdd, Int.reduceSub, Int.reduceMul, Int.reduceNeg, Nat.reduceEqDiff, ew]
            rw [if_neg (by omega)]
            refine ⟨_, rfl, rfl, g2.w (by rw [x_o32 h.1]; rfl), fun z z1 z2 => ?_⟩
            rw [yw_get]
            unfold upI
            by_cases hz : z = 8 * colBy ρ ((v : Int) / 8) k ((i : Int) / 3 - 1) 1 + colBy ρ ((v : Int) % 8) k ((i : Int) % 3 - 1) 1
            · rw [if_pos ⟨rfl, by rw [hz]⟩, if_pos hz]
            · rw [if_neg (by omega), if_neg hz]
              exact g3 z z1 z2
          · simp (disch := omega) only [if_neg q2, iI_le, iI_lt, iI_eq, iI_lit, iI_add, iI_sub, iI_mul, iI_neg, obs, if_true, if_false, Int.reduceEq, Int.reduceLE, Int.reduceLT, Int.reduceAdd, Int.reduceSub, Int.reduceMul, Int.reduceNeg, Nat.reduceEqDiff]
            exact ⟨_, rfl, rfl, g2, g3⟩
        · simp (disch := omega) only [if_neg q1, iI_le, iI_lt, iI_eq, iI_lit, iI_add, iI_sub, iI_mul, iI_neg, obs, if_true, if_false, Int.reduceEq, Int.reduceLE, Int.reduceLT, Int.reduceAdd, Int.reduceSub, Int.reduceMul, Int.reduceNeg, Nat.reduceEqDiff]
          exact ⟨_, rfl, rfl, g2, g3⟩
      · rintro ⟨j, w⟩ ⟨g1, g2, g3⟩
        simp only at g1 g2 g3
        subst g1
        have hu := h.fr g2 rfl
        have e3 := eB w g2
        rw [hf1] at e3
        refine ⟨w, ?_, g2, g3⟩
        simp (disch := omega) only [fy_B_goMeet_b37, x_18 hu.1, e3, iI_lit, iI_add, iI_sub, iI_mul, iI_neg, obs, if_true, if_false, Int.reduceEq, Int.reduceLE, Int.reduceLT, Int.reduceAdd, Int.reduceSub, Int.reduceMul, Int.reduceNeg, Nat.reduceEqDiff, show ¬ iI 1 = iI 0 by decide, iI_le, iI_lt, iI_eq]
        rw [if_pos (by omega)]
  have l3 : ∃ q, lp (fy_B_goMeet_b26 G X (iI k)) (iI 0, y1) = some q ∧ (yF O [16] 0 0 y q ∧ arY q (X + 32) 64 (bothN ρ k f 64)) := by
    refine lp_inv (fun i q => q.1 = iI i ∧ yF O [16] 0 0 y q.2 ∧ arY q.2 (X + 32) 64 (bothN ρ k f i)) 64 ?_ ?_ ⟨rfl, f1, a1⟩
    · rintro i ⟨j, u⟩ hi ⟨g1, g2, g3⟩
      simp only at g1 g2 g3
      subst g1
      have hu := h.fr g2 rfl
      obtain ⟨q, eq, q1, q2⟩ := l2 i u _ hi g2 g3 (bothN_01 i)
      left
      refine ⟨(iI ((i : Int) + 1), q), ?_, rfl, q1, by simp only [bothN]; split <;> (rename_i hh; first | rw [if_pos hh] at q2 | rw [if_neg hh] at q2) <;> exact q2⟩
      simp (disch := omega) only [fy_B_goMeet_b26, x_18 hu.1, aL_n (x_t31 hu.1), iI_lit, iI_add, iI_sub, iI_mul, iI_neg, obs, if_true, if_false, Int.reduceEq, Int.reduceLE, Int.reduceLT, Int.reduceAdd, Int.reduceSub, Int.reduceMul, Int.reduceNeg, Nat.reduceEqDiff, iI_le, iI_lt, iI_eq, eq]
      rw [if_neg (by omega)]
    · rintro ⟨j, u⟩ ⟨g1, g2, g3⟩
      simp only at g1 g2 g3
      subst g1
      have hu := h.fr g2 rfl
      refine ⟨u, ?_, g2, g3⟩
      simp (disch := omega) only [fy_B_goMeet_b26, x_18 hu.1, aL_n (x_t31 hu.1), iI_lit, iI_add, iI_sub, iI_mul, iI_neg, obs, if_true, if_false, Int.reduceEq, Int.reduceLE, Int.reduceLT, Int.reduceAdd, Int.reduceSub, Int.reduceMul, Int.reduceNeg, Nat.reduceEqDiff, iI_le, iI_lt, iI_eq]
      rw [if_pos (by omega)]
  obtain ⟨y2, e2, f2, a2⟩ := l3
  have hu := h.fr f2 rfl
  have ec := cp_b (x_t32 hu.1) (x_t31 hu.1) (z := 64) (by omega) (by omega) (by omega) (by omega) a2 (bothN_01 64)
  refine ⟨cA y2 (X + 32) (X + 31) 64, ?_, (f2.m0 (L' := [15, 16]) rfl).sa (by rw [x_o31 h.1]; rfl), fun z z1 z2 => ?_⟩
  · unfold fy_B_goMeet
    rw [show ((0, y) : Int32 × yS) = (iI 0, y) from rfl, e1, obs, show ((0, y1) : Int32 × yS) = (iI 0, y1) from rfl, e2, obs]
    simp only [x_19 hu.1, x_18 hu.1, aL_n (x_t31 hu.1) (show 1 < 7 by omega), obs]
    rw [show (0 : Int32) = iI 0 from rfl, show iI ((64 : Nat) : Int) = iI 64 from rfl, ec]
    rfl
  · rw [cA_eq (by omega)]
    exact a2 z z1 z2
theorem c_meetLoop (h : XC G O y ρ x X r bd ld) (hw : wfR ρ) (hx : wfS ρ x) {b : Int} (h1 : 0 ≤ b) (h2 : b < rB ρ) : ∀ (j : Nat) (u : yS) (f : Int → Int) (n : Int), yF O [15, 16] 0 0 y u → arY u (X + 31) 64 f → f01 f → n + j = lft ρ x b → 0 ≤ n → ∃ q, lp (fy_B_meet_b100 G X (iI b)) (iI n, u) = some q ∧ ∃ y', Sum.elim (fun s => (iI (-1), s)) id q = (iI (metN ρ (x (4 + b)) j f n), y') ∧ yF O [15, 16] 0 0 y y' := by
  have h5 := lft_b hw hx h1 h2
  have hb := hw.2.2.1
  have hx1 := hx.1 b h1 h2
  have hrr : lft ρ x b = rR ρ - x (4 + b) := rfl
  intro j
  induction j with
  | zero =>
    intro u f n hfu h31 hf hn hn0
    have hu := h.fr hfu rfl
    have e1 := c_left9 hu.1 hu.2.1 hu.2.2.1 hu.2.2.2 h1 (show b < 4 by omega)
    have e2 := c_side hu hf h31
    simp only [metN]
    rcases besN_01 f 64 with h0 | h0
    · rw [if_pos h0]
      have hbody : fy_B_meet_b100 G X (iI b) (iI n, u) = some (.inl (iI (n + 1), u)) := by
        simp (disch := omega) only [fy_B_meet_b100, x_c hu.1, e1, e2, iI_lit, iI_add, iI_sub, iI_mul, iI_neg, obs, if_true, if_false, Int.reduceEq, Int.reduceLE, Int.reduceLT, Int.reduceAdd, Int.reduceSub, Int.reduceMul, Int.reduceNeg, Nat.reduceEqDiff, iI_le, iI_lt, iI_eq, h0]
        rw [if_neg (by omega), if_pos (by omega)]
      refine ⟨.inl u, (lp_back hbody).trans (lp_out ?_), u, rfl, hfu⟩
      simp (disch := omega) only [fy_B_meet_b100, x_c hu.1, e1, iI_lit, iI_add, iI_sub, iI_mul, iI_neg, obs, if_true, if_false, Int.reduceEq, Int.reduceLE, Int.reduceLT, Int.reduceAdd, Int.reduceSub, Int.reduceMul, Int.reduceNeg, Nat.reduceEqDiff, iI_le, iI_lt, iI_eq]
      rw [if_pos (by omega)]
    · rw [if_neg (by omega)]
      refine ⟨.inr (iI n, u), lp_out ?_, u, rfl, hfu⟩
      simp (disch := omega) only [fy_B_meet_b100, x_c hu.1, e1, e2, iI_lit, iI_add, iI_sub, iI_mul, iI_neg, obs, if_true, if_false, Int.reduceEq, Int.reduceLE, Int.reduceLT, Int.reduceAdd, Int.reduceSub, Int.reduceMul, Int.reduceNeg, Nat.reduceEqDiff, iI_le, iI_lt, iI_eq, h0, show ¬ iI 1 = iI 0 by decide]
      rw [if_neg (by omega)]
  | succ j ih =>
    intro u f n hfu h31 hf hn hn0
    have hu := h.fr hfu rfl
    have e1 := c_left9 hu.1 hu.2.1 hu.2.2.1 hu.2.2.2 h1 (show b < 4 by omega)
    have e2 := c_side hu hf h31
    have h4 := s_a1 hu.2.2.1 hu.2.2.2 h1 (show b < 4 by omega)
    simp only [metN]
    rcases besN_01 f 64 with h0 | h0
    · rw [if_pos h0]
      obtain ⟨u2, e3, f3, a3⟩ := c_goMeet hu hw (k := x (4 + b) + n) (by omega) (by omega) hf h31
      have hbody : fy_B_meet_b100 G X (iI b) (iI n, u) = some (.inl (iI (n + 1), u2)) := by
        simp (disch := omega) only [fy_B_meet_b100, x_c hu.1, e1, e2, iI_lit, iI_add, iI_sub, iI_mul, iI_neg, obs, if_true, if_false, Int.reduceEq, Int.reduceLE, Int.reduceLT, Int.reduceAdd, Int.reduceSub, Int.reduceMul, Int.reduceNeg, Nat.reduceEqDiff, iI_le, iI_lt, iI_eq, h0, x_1 hu.1, s_1 hu.2.2.1, h4, e3]
        rw [if_neg (by omega), if_neg (by omega)]
      obtain ⟨q, eq, s', es, fs⟩ := ih u2 _ (n + 1) (hfu.t0 f3) a3 (bothN_01 64) (by omega) (by omega)
      exact ⟨q, (lp_back hbody).trans eq, s', es, fs⟩
    · rw [if_neg (by omega)]
      refine ⟨.inr (iI n, u), lp_out ?_, u, rfl, hfu⟩
      simp (disch := omega) only [fy_B_meet_b100, x_c hu.1, e1, e2, iI_lit, iI_add, iI_sub, iI_mul, iI_neg, obs, if_true, if_false, Int.reduceEq, Int.reduceLE, Int.reduceLT, Int.reduceAdd, Int.reduceSub, Int.reduceMul, Int.reduceNeg, Nat.reduceEqDiff, iI_le, iI_lt, iI_eq, h0, show ¬ iI 1 = iI 0 by decide]
      rw [if_neg (by omega)]
theorem c_meet (h : XC G O y ρ x X r bd ld) (hw : wfR ρ) (hx : wfS ρ x) {b c : Int} (h1 : -2147483648 ≤ b) (h2 : b < 2147483648) (h3 : -2147483648 ≤ c) (h4 : c < 2147483648) : ∃ y', fy_B_meet G y X (iI b) (iI c) = some (iI (if (0 ≤ b ∧ b < rB ρ) ∧ (0 ≤ c ∧ c < rB ρ) ∧ ¬ b = c ∧ x (4 + b) = x (4 + c) then metN ρ (x (4 + b)) (lft ρ x b).toNat (meetF x b c) 0 else -1), y') ∧ yF O [15, 16] 0 0 y y' := by
  unfold fy_B_meet
  rw [x_c h.1, obs, c_isBoard h.1 h.2.1 hw h1 h2, obs]
  by_cases hA : 0 ≤ b ∧ b < rB ρ
  rotate_left
  · refine ⟨y, ?_, yF.refl⟩
    rw [if_neg (show ¬ ((0 ≤ b ∧ b < rB ρ) ∧ (0 ≤ c ∧ c < rB ρ) ∧ ¬ b = c ∧ x (4 + b) = x (4 + c)) from fun z => hA z.1)]
    simp only [if_neg hA, iI_lit, iI_add, iI_sub, iI_mul, iI_neg, obs, if_true, if_false, Int.reduceEq, Int.reduceLE, Int.reduceLT, Int.reduceAdd, Int.reduceSub, Int.reduceMul, Int.reduceNeg, Nat.reduceEqDiff]
  simp only [if_pos hA, iI_lit, iI_add, iI_sub, iI_mul, iI_neg, obs, if_true, if_false, Int.reduceEq, Int.reduceLE, Int.reduceLT, Int.reduceAdd, Int.reduceSub, Int.reduceMul, Int.reduceNeg, Nat.reduceEqDiff, show ¬ iI 1 = iI 0 by decide, x_c h.1, c_isBoard h.1 h.2.1 hw h3 h4]
  by_cases hB : 0 ≤ c ∧ c < rB ρ
  rotate_left
  · refine ⟨y, ?_, yF.refl⟩
    rw [if_neg (show ¬ ((0 ≤ b ∧ b < rB ρ) ∧ (0 ≤ c ∧ c < rB ρ) ∧ ¬ b = c ∧ x (4 + b) = x (4 + c)) from fun z => hB z.2.1)]
    simp only [if_neg hB, iI_lit, iI_add, iI_sub, iI_mul, iI_neg, obs, if_true, if_false, Int.reduceEq, Int.reduceLE, Int.reduceLT, Int.reduceAdd, Int.reduceSub, Int.reduceMul, Int.reduceNeg, Nat.reduceEqDiff]
  have hb := hw.2.2.1
  have hr := hw.2.1
  have hC := hw.1
  have x1 := hx.1 b hA.1 hA.2
  have x2 := hx.1 c hB.1 hB.2
  have a1 := s_a1 h.2.2.1 h.2.2.2 hA.1 (show b < 4 by omega)
  have a2 := s_a1 h.2.2.1 h.2.2.2 hB.1 (show c < 4 by omega)
  simp (disch := omega) only [if_pos hB, iI_lit, iI_add, iI_sub, iI_mul, iI_neg, obs, if_true, if_false, Int.reduceEq, Int.reduceLE, Int.reduceLT, Int.reduceAdd, Int.reduceSub, Int.reduceMul, Int.reduceNeg, Nat.reduceEqDiff, iI_le, iI_lt, iI_eq, show ¬ iI 1 = iI 0 by decide, x_1 h.1, s_1 h.2.2.1, a1, a2]
  by_cases q1 : b = c
  · refine ⟨y, ?_, yF.refl⟩
    rw [if_pos q1, if_neg (fun z => z.2.2.1 q1)]
  rw [if_neg q1]
  by_cases q2 : x (4 + b) = x (4 + c)
  rotate_left
  · refine ⟨y, ?_, yF.refl⟩
    rw [if_neg q2, if_neg (fun z => q2 z.2.2.2)]
  have l1 : ∃ q, lp (fy_B_meet_b46 G X (iI b) (iI c)) (iI 0, y) = some q ∧ (yF O [15, 16] 0 0 y q ∧ arY q (X + 31) 64 (meetF x b c)) := by
    refine lp_inv (fun i q => q.1 = iI i ∧ yF O [15, 16] 0 0 y q.2 ∧ arY q.2 (X + 31) i (meetF x b c)) 64 ?_ ?_ ⟨rfl, yF.refl, fun z z1 z2 => by omega⟩
    · rintro i ⟨k, u⟩ hi ⟨g1, g2, g3⟩
      simp only at g1 g2 g3
      subst g1
      have hu := h.fr g2 rfl
      have a3 := s_a0 hu.2.2.1 hu.2.2.2 hA.1 (show b < 4 by omega)
      have a4 := s_a0 hu.2.2.1 hu.2.2.2 hB.1 (show c < 4 by omega)
      have hm : meetF x b c i = 0 ∨ meetF x b c i = 1 := by unfold meetF; split <;> simp
      have ew := wB_b (v := meetF x b c i) (x_t31 hu.1) (z := i) (by omega) (by omega) (by omega) hm
      left
      refine ⟨(iI ((i : Int) + 1), yw u (X + 31) (i : Int).toNat (iI (meetF x b c i))), ?_, rfl, g2.w (by rw [x_o31 h.1]; rfl), fun z z1 z2 => ?_⟩
      · simp (disch := omega) only [fy_B_meet_b46, x_18 hu.1, aL_n (x_t31 hu.1), iI_lit, iI_add, iI_sub, iI_mul, iI_neg, obs, if_true, if_false, Int.reduceEq, Int.reduceLE, Int.reduceLT, Int.reduceAdd, Int.reduceSub, Int.reduceMul, Int.reduceNeg, Nat.reduceEqDiff, iI_le, iI_lt, iI_eq, x_1 hu.1, s_0 hu.2.2.1, a3, a4]
        rw [if_neg (by omega)]
        unfold meetF at ew ⊢
        by_cases hz : (i : Int) = 8 * x b + x c
        · simp only [if_pos hz] at ew ⊢
          rw [ew]
          rfl
        · simp only [if_neg hz] at ew ⊢
          rw [ew]
          rfl
      · rw [yw_get]
        split
        · rename_i hz
          rw [show z = (i : Int) by omega]
        · exact g3 z z1 (by omega)
    · rintro ⟨k, u⟩ ⟨g1, g2, g3⟩
      simp only at g1 g2 g3
      subst g1
      have hu := h.fr g2 rfl
      refine ⟨u, ?_, g2, g3⟩
      simp (disch := omega) only [fy_B_meet_b46, x_18 hu.1, aL_n (x_t31 hu.1), iI_lit, iI_add, iI_sub, iI_mul, iI_neg, obs, if_true, if_false, Int.reduceEq, Int.reduceLE, Int.reduceLT, Int.reduceAdd, Int.reduceSub, Int.reduceMul, Int.reduceNeg, Nat.reduceEqDiff, iI_le, iI_lt, iI_eq]
      rw [if_pos (by omega)]
  obtain ⟨y1, e1, f1, b1⟩ := l1
  have h5 := lft_b hw hx hA.1 hA.2
  obtain ⟨q, eq, y', e', f'⟩ := c_meetLoop h hw hx hA.1 hA.2 (lft ρ x b).toNat y1 _ 0 f1 b1 (fun z => by unfold meetF; split <;> simp) (by omega) (by omega)
  refine ⟨y', ?_, f'⟩
  rw [if_pos q2, if_pos ⟨hA, hB, q1, q2⟩, e1, obs, eq, obs]
  cases q with
  | inl q => exact congrArg some e'
  | inr q => exact congrArg some e'
end E5

/-! LAYER 3: mooring: the component -/
set_option maxRecDepth 100000
def miI (O : Nat → Nat) (y : yS) (X : Nat) (ρ : Rv) (x D : Int → Int) (l : Nat) (a : AcM) (u : yS) : Prop :=
  yF O [11, 10, 220, 221] 0 0 y u ∧ yf u X 20 = iI a.1 ∧ (0 ≤ a.1 → yf u X 21 = iI a.2.1 ∧ ∀ z, 0 ≤ z → z < rB ρ → ya u (X + 26) z.toNat = iI (a.2.2 z)) ∧ (∀ z, 0 ≤ z → z < (l : Int) → ya u (X + 27) z.toNat = iI (rwM D z))
section H3
variable {G : ai_G} {O : Nat → Nat} {y : yS} {ρ : Rv} {x D : Int → Int} {X r : Nat} {bd ld : Nat → Nat}
theorem preM (l : Nat) (d : Int) : usM (upI D l d) l = usM D l ∧ mnM (upI D l d) l = mnM D l ∧ btM x (upI D l d) l = btM x D l ∧ okM ρ x (upI D l d) l = okM ρ x D l := okM_ext l (fun i _ i2 => upI_pre i2)
theorem joinM (l : Nat) (t : Int → Int) : usM (joinI l D t) l = usM D l ∧ mnM (joinI l D t) l = mnM D l ∧ btM x (joinI l D t) l = btM x D l ∧ okM ρ x (joinI l D t) l = okM ρ x D l := okM_ext l (fun i _ i2 => if_pos i2)
theorem d9_up (h : d9 D) (l : Int) {d : Int} (h1 : 0 ≤ d) (h2 : d < 9) : d9 (upI D l d) := by
  intro i
  unfold upI
  split
  · exact ⟨h1, h2⟩
  · exact h i
theorem d9_join (h : d9 D) {t : Int → Int} (ht : dB 9 t) (l : Int) : d9 (joinI l D t) := by
  intro i
  unfold joinI
  split
  · exact h i
  · exact ht _
theorem skipM_bad {l m : Nat} (hlm : l + m = (rB ρ).toNat) (h : okM ρ x D l = 0) (a : AcM) : TF 9 m (fun t => upM ρ x (joinI l D t)) a = a := by
  refine TF_skip (by omega) _ _ _ (fun t _ => ?_)
  have e := (joinM (ρ := ρ) (x := x) (D := D) l t).2.2.2
  have e2 := okM_stop (ρ := ρ) (x := x) (D := joinI l D t) (j := l) (by rw [e]; exact h) m
  rw [hlm] at e2
  unfold upM
  rw [if_neg (by omega)]
theorem TF_inv {A : Type} {P : A → Prop} {B : Nat} : ∀ (m : Nat) (up : (Int → Int) → A → A) (a : A), (∀ t b, dB B t → P b → P (up t b)) → 0 < B → P a → P (TF B m up a) := by
  intro m
  induction m with
  | zero => intro up a h1 h2 h3; exact h1 _ _ (fun i => ⟨Int.le_refl _, by omega⟩) h3
  | succ m ih =>
    intro up a h1 h2 h3
    simp only [TF]
    have : ∀ n, n ≤ B → P (foldN (fun d => TF B m (fun t => up (consI d t))) n a) := by
      intro n
      induction n with
      | zero => intro _; exact h3
      | succ n ihn => intro hn; exact ih _ _ (fun t b ht hb => h1 _ _ (ht.cons (by omega)) hb) h2 (ihn (by omega))
    exact this B (Nat.le_refl _)
theorem accM_TF (hw : wfR ρ) (hx : wfS ρ x) (hD : d9 D) (m : Nat) (l : Int) {a : AcM} (h : accM a) : accM (TF 9 m (fun t => upM ρ x (joinI l D t)) a) := TF_inv m _ a (fun t b ht hb => upM_b hw hx (d9_join hD ht l) hb) (by omega) h
theorem c_hasB {S l : Int} (h1 : 0 ≤ l) (h2 : l < 8) (h3 : 0 ≤ S) (h4 : S < 256) : fy_B_has (iI S) (iI l) = some (iI (bit S l)) := by
  have hb := bit_01 S l
  simp (disch := omega) only [fy_B_has, iI_lit, iI_add, iI_sub, iI_mul, iI_neg, obs, if_true, if_false, Int.reduceEq, Int.reduceLE, Int.reduceLT, Int.reduceAdd, Int.reduceSub, Int.reduceMul, Int.reduceNeg, Nat.reduceEqDiff, bit_i, iI_le, iI_lt, iI_eq]
  rcases hb with hb | hb
  · simp only [hb, show ¬ iI 1 = iI 0 by decide, iI_lit, iI_add, iI_sub, iI_mul, iI_neg, obs, if_true, if_false, Int.reduceEq, Int.reduceLE, Int.reduceLT, Int.reduceAdd, Int.reduceSub, Int.reduceMul, Int.reduceNeg, Nat.reduceEqDiff]
  · simp only [hb, show ¬ iI 1 = iI 0 by decide, iI_lit, iI_add, iI_sub, iI_mul, iI_neg, obs, if_true, if_false, Int.reduceEq, Int.reduceLE, Int.reduceLT, Int.reduceAdd, Int.reduceSub, Int.reduceMul, Int.reduceNeg, Nat.reduceEqDiff]
theorem c_goMoor (h : XC G O y ρ x X r bd ld) (hw : wfR ρ) (hx : wfS ρ x) (hM : ∀ j : Nat, (j : Int) < rB ρ → ya y (X + 33) j = iI (mooS ρ x j)) : ∀ (m l : Nat), l + m = (rB ρ).toNat → ∀ (n : Nat), m + 1 ≤ n → ∀ (D : Int → Int), d9 D → okM ρ x D l = 1 → ∀ (a : AcM), accM a → ∀ u, miI O y X ρ x D l a u → ∃ u', fy_B_goMoor_N G n u X (iI l) (iI (usM D l)) (iI (mnM D l)) (iI (btM x D l)) = some u' ∧ miI O y X ρ x D l (TF 9 m (fun t => upM ρ x (joinI l D t)) a) u' := by
  have hB := hw.2.2.1
  have hC := hw.1
  have hXn := h.1.1.2.1
  have hr := hw.2.1
  intro m
  induction m with
  | zero =>
    intro l hlm n hn D hD hok a ha u hu
    obtain ⟨n, rfl⟩ : ∃ k, n = k + 1 := ⟨n - 1, by omega⟩
    have hu0 := hu
    obtain ⟨g1, g2, g3, g6⟩ := hu
    have hc := h.fr g1 rfl
    have hmb := mnM_b D l
    have hbt := btM_b hw hx hD l (by omega)
    have e20 : gI 0 20 u X = some (iI a.1) := by rw [gI_ok hc.1.1.1, g2]
    have hll : (l : Int) = rB ρ := by omega
    have e := joinM (ρ := ρ) (x := x) (D := D) l (fun _ => 0)
    have hLl : (rB ρ).toNat = l := by omega
    have hup : upM ρ x (joinI l D (fun _ => 0)) a = if (a.1 < mnM D l ∨ (mnM D l = a.1 ∧ btM x D l < a.2.1)) then (mnM D l, btM x D l, fun k => if 0 ≤ k ∧ k < rB ρ then rwM D k else 0) else a := by
      have hrow : (fun k => if 0 ≤ k ∧ k < rB ρ then rwM (joinI l D (fun _ => 0)) k else 0) = (fun k => if 0 ≤ k ∧ k < rB ρ then rwM D k else 0) := by
        funext k
        by_cases c : 0 ≤ k ∧ k < rB ρ
        · rw [if_pos c, if_pos c]
          unfold rwM
          rw [show joinI (l : Int) D (fun _ => 0) k = D k from if_pos (by omega)]
        · rw [if_neg c, if_neg c]
      unfold upM
      rw [hLl, e.2.1, e.2.2.1, e.2.2.2, hrow]
      by_cases c : a.1 < mnM D l ∨ (mnM D l = a.1 ∧ btM x D l < a.2.1)
      · rw [if_pos c, if_pos ⟨hok, c⟩]
      · rw [if_neg c, if_neg (fun z => c z.2)]
    have leaf : (a.1 < mnM D l ∨ (mnM D l = a.1 ∧ btM x D l < a.2.1)) → ∃ u', fy_B_goMoor_j34 G (fy_B_goMoor_N G n) u X (iI l) (iI (mnM D l)) (iI (btM x D l)) = some u' ∧ miI O y X ρ x D l (upM ρ x (joinI l D (fun _ => 0)) a) u' := by
      intro hlt
      have S1 := hc.1.fr (yF.refl.sf (L := [220, 221]) (v := iI (mnM D l)) (k := 20) (by rw [x_lb hc.1]; rfl)) rfl
      have S2 := S1.fr (yF.refl.sf (L := [220, 221]) (v := iI (btM x D l)) (k := 21) (by rw [x_lb S1]; rfl)) rfl
      have t27 := x_t27 hc.1
      have t26 := x_t26 hc.1
      have ecp := cp_n (y := u) (y' := sF (sF u X 20 (iI (mnM D l))) X 21 (iI (btM x D l))) t27 t26 rfl (z := l) (by omega) (by omega) (by omega) (by omega)
      refine ⟨cA (sF (sF u X 20 (iI (mnM D l))) X 21 (iI (btM x D l))) (X + 27) (X + 26) l, ?_, ?_⟩
      · unfold fy_B_goMoor_j34
        rw [x_wI hc.1 rfl, obs, x_wI S1 rfl, obs, x_12 S2, obs, x_11 S2, obs, show (0 : Int32) = iI 0 from rfl, ecp, obs, Int.toNat_natCast]
      · rw [hup, if_pos hlt]
        refine ⟨((g1.sf (by rw [x_lb h.1]; rfl)).sf (by rw [x_lb h.1]; rfl)).sa (by rw [x_o26 h.1]; rfl), ?_, fun _ => ⟨?_, fun z z1 z2 => ?_⟩, fun z z1 z2 => ?_⟩
        · show yf (sF (sF u X 20 (iI (mnM D l))) X 21 (iI (btM x D l))) X 20 = _
          rw [sF_get, if_neg (by omega), sF_get, if_pos ⟨rfl, rfl⟩]
        · show yf (sF (sF u X 20 (iI (mnM D l))) X 21 (iI (btM x D l))) X 21 = _
          rw [sF_get, if_pos ⟨rfl, rfl⟩]
        · rw [cA_eq (by omega)]
          show ya u (X + 27) z.toNat = iI (if 0 ≤ z ∧ z < rB ρ then rwM D z else 0)
          rw [g6 z z1 (by omega), if_pos ⟨z1, z2⟩]
        · rw [cA_ne (by omega)]
          exact g6 z z1 z2
    have stay : ¬ (a.1 < mnM D l ∨ (mnM D l = a.1 ∧ btM x D l < a.2.1)) → miI O y X ρ x D l (upM ρ x (joinI l D (fun _ => 0)) a) u := fun hq => by
      rw [hup, if_neg hq]
      exact hu0
    have hab : -1 ≤ a.1 ∧ a.1 ≤ 4 ∧ 0 ≤ a.2.1 ∧ a.2.1 ≤ 64 := by rcases ha with z | z <;> omega
    show ∃ u', fy_B_goMoor G (fy_B_goMoor_N G n) u X (iI l) (iI (usM D l)) (iI (mnM D l)) (iI (btM x D l)) = some u' ∧ miI O y X ρ x D l (upM ρ x (joinI l D (fun _ => 0)) a) u'
    unfold fy_B_goMoor
    rw [x_c hc.1, obs, c_boards hc.1 hc.2.1, obs, hll, if_pos rfl, e20, obs]
    rw [← hll]
    by_cases c1 : mnM D l < a.1
    · rw [if_pos (by rw [iI_lt (by omega) (by omega) (by omega) (by omega)]; exact c1)]
      exact ⟨u, rfl, stay (by omega)⟩
    · rw [if_neg (by rw [iI_lt (by omega) (by omega) (by omega) (by omega)]; exact c1), obs]
      by_cases c2 : mnM D l = a.1
      · have e21 : gI 0 21 u X = some (iI a.2.1) := by rw [gI_ok hc.1.1.1, (g3 (by omega)).1]
        rw [if_pos (by rw [c2]), e21, obs]
        by_cases c3 : btM x D l < a.2.1
        · rw [if_pos (by rw [iI_lt (by omega) (by omega) (by omega) (by omega)]; exact c3)]
          exact leaf (Or.inr ⟨c2, c3⟩)
        · rw [if_neg (by rw [iI_lt (by omega) (by omega) (by omega) (by omega)]; exact c3)]
          exact ⟨u, rfl, stay (by omega)⟩
      · rw [if_neg (by rw [iI_eq (by omega) (by omega) (by omega) (by omega)]; exact c2)]
        exact leaf (Or.inl (by omega))
  | succ m ih =>
    intro l hlm n hn D hD hok a ha u hu
    obtain ⟨n, rfl⟩ : ∃ k, n = k + 1 := ⟨n - 1, by omega⟩
    have hc := h.fr hu.1 rfl
    have hub := usM_b hD l
    have hmb := mnM_b D l
    have hbt := btM_b hw hx hD l (by omega)
    have hll : (l : Int) < rB ρ := by omega
    have hxl := hx.1 (l : Int) (by omega) hll
    have hMl := mooS_b hw hx l (by omega) hll
    have hloop : ∃ q, lp (fy_B_goMoor_b63 G (fy_B_goMoor_N G n) X (iI l) (iI (usM D l)) (iI (mnM D l)) (iI (btM x D l))) (iI 0, u) = some q ∧ miI O y X ρ x D l (foldN (fun d => TF 9 m (fun t => upM ρ x (joinI ((l : Int) + 1) (upI D l d) t))) 8 a) q := by
      refine lp_inv (fun i q => q.1 = iI i ∧ miI O y X ρ x D l (foldN (fun d => TF 9 m (fun t => upM ρ x (joinI ((l : Int) + 1) (upI D l d) t))) i a) q.2) (rC ρ).toNat ?_ ?_ ⟨rfl, show miI O y X ρ x D l (foldN (fun d => TF 9 m (fun t => upM ρ x (joinI ((l : Int) + 1) (upI D l d) t))) 0 a) u from hu⟩
      · rintro i ⟨k, v⟩ hi ⟨q1, q2⟩
        simp only at q1 q2
        subst q1
        generalize hA : foldN (fun d => TF 9 m (fun t => upM ρ x (joinI ((l : Int) + 1) (upI D l d) t))) i a = A at *
        have hAb : accM A := by
          rw [← hA]
          clear hA q2
          have : ∀ j, j ≤ 9 → accM (foldN (fun d => TF 9 m (fun t => upM ρ x (joinI ((l : Int) + 1) (upI D l d) t))) j a) := by
            intro j
            induction j with
            | zero => intro _; exact ha
            | succ j ihj => intro hj; exact accM_TF hw hx (d9_up hD _ (by omega) (by omega)) m _ (ihj (by omega))
          exact this i (by omega)
        have hAs : foldN (fun d => TF 9 m (fun t => upM ρ x (joinI ((l : Int) + 1) (upI D l d) t))) (i + 1) a = TF 9 m (fun t => upM ρ x (joinI ((l : Int) + 1) (upI D l i) t)) A := by rw [← hA]; rfl
        rw [hAs]
        have q2' := q2
        obtain ⟨k1, k2, k3, k6⟩ := q2
        have hv := h.fr k1 rfl
        have a1 := s_a1 hv.2.2.1 hv.2.2.2 (b := l) (by omega) (by omega)
        have a33 : aI v (X + 33) (iI l) = some (iI (mooS ρ x l)) := by
          rw [aI_n 4 (x_t33 hv.1) (by omega) (by omega) (by omega), Int.toNat_natCast, k1.arr (by omega) (by rw [x_o33 h.1]; rfl), hM l hll]
        have p := preM (ρ := ρ) (x := x) (D := D) l (i : Int)
        have eD : upI D l (i : Int) l = i := if_pos rfl
        have n8 : ¬ (i : Int) = 8 := by omega
        have h1 := c_hasB (S := usM D l) (l := i) (by omega) (by omega) hub.1 hub.2
        have h2 := c_hasB (S := mooS ρ x l) (l := i) (by omega) (by omega) hMl.1 hMl.2
        have b1 := bit_01 (usM D l) i
        have b2 := bit_01 (mooS ρ x l) i
        have badS : ¬ (bit (mooS ρ x l) i = 1 ∧ bit (usM D l) i = 0) → miI O y X ρ x D l (TF 9 m (fun t => upM ρ x (joinI ((l : Int) + 1) (upI D l i) t)) A) v := fun hq => by
          have bad : okM ρ x (upI D l i) (l + 1) = 0 := by
            simp only [okM]
            rw [eD, p.1, if_neg]
            rintro ⟨-, z | z⟩
            · exact n8 z
            · exact hq z
          have := skipM_bad (m := m) (by omega) bad A
          rw [show ((l + 1 : Nat) : Int) = (l : Int) + 1 by omega] at this
          rw [this]
          exact q2'
        left
        simp (disch := omega) only [fy_B_goMoor_b63, x_0 hv.1, r_col hv.2.1, iI_lit, iI_add, iI_sub, iI_mul, iI_neg, obs, if_true, if_false, Int.reduceEq, Int.reduceLE, Int.reduceLT, Int.reduceAdd, Int.reduceSub, Int.reduceMul, Int.reduceNeg, Nat.reduceEqDiff, iI_le, iI_lt, iI_eq, x_1 hv.1, s_1 hv.2.2.1, a1, h1, x_22 hv.1, a33, h2]
        rw [if_neg (by omega)]
        by_cases c0 : x (4 + l) = 0
        rotate_left
        · rw [if_neg c0]
          refine ⟨_, rfl, rfl, badS ?_⟩
          rintro ⟨z, -⟩
          have : mooS ρ x l = 0 := if_neg c0
          rw [this] at z
          have z0 : bit 0 (i : Int) = 0 := by unfold bit; simp
          omega
        · rw [if_pos c0]
          by_cases c1 : bit (usM D l) i = 0
          rotate_left
          · rw [if_neg c1]
            exact ⟨_, rfl, rfl, badS (fun z => c1 z.2)⟩
          · rw [if_pos c1]
            by_cases c2 : bit (mooS ρ x l) i = 0
            · rw [if_pos c2]
              exact ⟨_, rfl, rfl, badS (fun z => by omega)⟩
            · rw [if_neg c2]
              have w1 : wA v (X + 27) (iI l) (iI i) = some (yw v (X + 27) (l : Int).toNat (iI i)) := wA_n 7 (x_t27 hv.1) (by omega) (by omega) (by omega)
              have f2 : yF O [11, 10, 220, 221] 0 0 v (yw v (X + 27) (l : Int).toNat (iI i)) := yF.refl.w (by rw [x_o27 h.1]; rfl)
              have hv2 := hv.fr f2 rfl
              have a0 := s_a0 hv2.2.2.1 hv2.2.2.2 (b := l) (by omega) (by omega)
              have ho := orb_i (S := usM D l) (l := i) (by omega) (by omega) hub.1 (by omega)
              have us1 : usM (upI D l i) (l + 1) = orb (usM D l) i := by
                simp only [usM]
                rw [eD, if_neg n8, p.1]
              have mn1 : mnM (upI D l i) (l + 1) = mnM D l + 1 := by
                simp only [mnM]
                rw [eD, if_neg n8, p.2.1]
              have bt1 : btM x (upI D l i) (l + 1) = btM x D l + absI (i - x l) := by
                simp only [btM]
                rw [eD, if_neg n8, p.2.2.1]
              have ok1 : okM ρ x (upI D l i) (l + 1) = 1 := by
                simp only [okM]
                rw [eD, p.1, p.2.2.2, if_pos ⟨hok, Or.inr ⟨by omega, c1⟩⟩]
              have hu3 : miI O y X ρ x (upI D l i) (l + 1) A (yw v (X + 27) (l : Int).toNat (iI i)) := by
                refine ⟨k1.t0 f2, k2, fun q => ⟨(k3 q).1, fun z z1 z2 => ?_⟩, fun z z1 z2 => ?_⟩
                · rw [yw_ne (by omega)]; exact (k3 q).2 z z1 z2
                · rw [yw_get]
                  by_cases hz : z = l
                  · rw [if_pos ⟨rfl, by rw [hz]⟩, hz]
                    unfold rwM
                    rw [eD, if_neg n8]
                  · rw [if_neg (by omega), k6 z z1 (by omega)]
                    unfold rwM
                    rw [upI_pre (by omega)]
              obtain ⟨u', e', s'⟩ := ih (l + 1) (by omega) n (by omega) (upI D l i) (d9_up hD _ (by omega) (by omega)) ok1 A hAb _ hu3
              rw [us1, mn1, bt1, show ((l + 1 : Nat) : Int) = (l : Int) + 1 by omega] at e'
              rw [show ((l + 1 : Nat) : Int) = (l : Int) + 1 by omega] at s'
              refine ⟨(iI ((i : Int) + 1), u'), ?_, rfl, ?_⟩
              · rw [x_12 hv.1, obs, w1, obs, x_1 hv2.1, obs, s_0 hv2.2.2.1, obs, a0, obs, x_c hv2.1, obs, ho.1, iI_sub, iabs_i (by omega) (by omega), iI_add, e', obs]
              · obtain ⟨j1, j2, j3, j6⟩ := s'
                exact ⟨j1, j2, j3, fun z z1 z2 => by rw [j6 z z1 (by omega)]; unfold rwM; rw [upI_pre (by omega)]⟩
      · rintro ⟨k, v⟩ ⟨q1, q2⟩
        simp only at q1 q2
        subst q1
        have hv := h.fr q2.1 rfl
        refine ⟨v, ?_, ?_⟩
        · simp (disch := omega) only [fy_B_goMoor_b63, x_0 hv.1, r_col hv.2.1, iI_lit, iI_add, iI_sub, iI_mul, iI_neg, obs, if_true, if_false, Int.reduceEq, Int.reduceLE, Int.reduceLT, Int.reduceAdd, Int.reduceSub, Int.reduceMul, Int.reduceNeg, Nat.reduceEqDiff, iI_le, iI_lt, iI_eq]
          rw [if_pos (by omega)]
        · rw [foldN_rest (rC ρ).toNat 8 (fun d b d1 d2 => ?_) (by omega)]
          · exact q2
          · have bad : okM ρ x (upI D l d) (l + 1) = 0 := by
              have hoff := mooS_off hw hx (b := l) (by omega) hll (c := d) (by omega) (by omega)
              simp only [okM]
              rw [show upI D l (d : Int) l = d from if_pos rfl, if_neg]
              rintro ⟨-, z | z⟩ <;> omega
            have := skipM_bad (m := m) (by omega) bad b
            rw [show ((l + 1 : Nat) : Int) = (l : Int) + 1 by omega] at this
            exact this
    obtain ⟨q, eq, hq⟩ := hloop
    show ∃ u', fy_B_goMoor G (fy_B_goMoor_N G n) u X (iI l) (iI (usM D l)) (iI (mnM D l)) (iI (btM x D l)) = some u' ∧ _
    unfold fy_B_goMoor
    rw [x_c hc.1, obs, c_boards hc.1 hc.2.1, obs, if_neg (by rw [iI_eq (by omega) (by omega) (by omega) (by omega)]; omega), show (0 : Int32) = iI 0 from rfl, eq, obs, TF_join]
    have hAb : accM (foldN (fun d => TF 9 m (fun t => upM ρ x (joinI ((l : Int) + 1) (upI D l d) t))) 8 a) := by
      have : ∀ j, j ≤ 9 → accM (foldN (fun d => TF 9 m (fun t => upM ρ x (joinI ((l : Int) + 1) (upI D l d) t))) j a) := by
        intro j
        induction j with
        | zero => intro _; exact ha
        | succ j ihj => intro hj; exact accM_TF hw hx (d9_up hD _ (by omega) (by omega)) m _ (ihj (by omega))
      exact this 8 (by omega)
    rw [show foldN (fun d => TF 9 m (fun t => upM ρ x (joinI ((l : Int) + 1) (upI D l d) t))) 9 a = TF 9 m (fun t => upM ρ x (joinI ((l : Int) + 1) (upI D l (8 : Nat)) t)) (foldN (fun d => TF 9 m (fun t => upM ρ x (joinI ((l : Int) + 1) (upI D l d) t))) 8 a) from rfl]
    generalize foldN (fun d => TF 9 m (fun t => upM ρ x (joinI ((l : Int) + 1) (upI D l d) t))) 8 a = A at *
    obtain ⟨k1, k2, k3, k6⟩ := hq
    have hv := h.fr k1 rfl
    have f2 : yF O [11, 10, 220, 221] 0 0 q (yw q (X + 27) (l : Int).toNat (iI (-1))) := yF.refl.w (by rw [x_o27 h.1]; rfl)
    have hv2 := hv.fr f2 rfl
    have p := preM (ρ := ρ) (x := x) (D := D) l 8
    have eD : upI D l 8 l = 8 := if_pos rfl
    have us1 : usM (upI D l 8) (l + 1) = usM D l := by
      simp only [usM]
      rw [eD, if_pos rfl, p.1]
    have mn1 : mnM (upI D l 8) (l + 1) = mnM D l := by
      simp only [mnM]
      rw [eD, if_pos rfl, p.2.1, Int.add_zero]
    have bt1 : btM x (upI D l 8) (l + 1) = btM x D l := by
      simp only [btM]
      rw [eD, if_pos rfl, p.2.2.1, Int.add_zero]
    have ok1 : okM ρ x (upI D l 8) (l + 1) = 1 := by
      simp only [okM]
      rw [eD, p.2.2.2, if_pos ⟨hok, Or.inl rfl⟩]
    have hu3 : miI O y X ρ x (upI D l 8) (l + 1) A (yw q (X + 27) (l : Int).toNat (iI (-1))) := by
      refine ⟨k1.t0 f2, k2, fun q => ⟨(k3 q).1, fun z z1 z2 => ?_⟩, fun z z1 z2 => ?_⟩
      · rw [yw_ne (by omega)]; exact (k3 q).2 z z1 z2
      · rw [yw_get]
        by_cases hz : z = l
        · rw [if_pos ⟨rfl, by rw [hz]⟩, hz]
          unfold rwM
          rw [eD, if_pos rfl]
        · rw [if_neg (by omega), k6 z z1 (by omega)]
          unfold rwM
          rw [upI_pre (by omega)]
    obtain ⟨u', e', s'⟩ := ih (l + 1) (by omega) n (by omega) (upI D l 8) (d9_up hD _ (by omega) (by omega)) ok1 A hAb _ hu3
    rw [us1, mn1, bt1, show ((l + 1 : Nat) : Int) = (l : Int) + 1 by omega] at e'
    rw [show ((l + 1 : Nat) : Int) = (l : Int) + 1 by omega] at s'
    refine ⟨u', ?_, ?_⟩
    · rw [x_12 hv.1, obs, show (-1 : Int32) = iI (-1) from rfl, wA_n 7 (x_t27 hv.1) (by omega) (by omega) (by omega), obs, x_c hv2.1, obs, i1, iI_add, e', obs]
    · obtain ⟨j1, j2, j3, j6⟩ := s'
      exact ⟨j1, j2, j3, fun z z1 z2 => by rw [j6 z z1 (by omega)]; unfold rwM; rw [upI_pre (by omega)]⟩
end H3

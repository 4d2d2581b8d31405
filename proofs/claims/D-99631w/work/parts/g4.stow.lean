/-! LAYER 3: stowing: the component -/
set_option maxRecDepth 100000
def stI (O : Nat → Nat) (y : yS) (X : Nat) (ρ : Rv) (x D : Int → Int) (l : Nat) (a : Acc) (u : yS) : Prop :=
  yF O [11, 10, 14, 216] 0 0 y u ∧ yf u X 16 = iI (if a.1 = 1000000 then -1 else a.1) ∧ (¬ a.1 = 1000000 → ∀ z, 0 ≤ z → z < rL ρ → ya u (X + 26) z.toNat = iI (a.2 z)) ∧ (∀ b, 0 ≤ b → b < 4 → ya u (X + 30) b.toNat = iI (wsN ρ x D b l)) ∧ (∀ i, 4 ≤ i → i < 8 → ya u (X + 30) i = ya y (X + 30) i) ∧ (∀ z, 0 ≤ z → z < (l : Int) → ya u (X + 27) z.toNat = iI (if x (20 + z) = -1 then D z else -1))
section G4
variable {G : ai_G} {O : Nat → Nat} {y : yS} {ρ : Rv} {x D : Int → Int} {X r : Nat} {bd ld : Nat → Nat}
theorem upI_pre {l : Nat} {d i : Int} (h2 : i < (l : Int)) : upI D l d i = D i := if_neg (by omega)
theorem pre_ext (l : Nat) (d : Int) : usN x (upI D l d) l = usN x D l ∧ (∀ b, wsN ρ x (upI D l d) b l = wsN ρ x D b l) ∧ okN ρ x (upI D l d) l = okN ρ x D l := stwC_ext l (fun i _ i2 => upI_pre i2)
theorem join_ext (l : Nat) (t : Int → Int) : usN x (joinI l D t) l = usN x D l ∧ (∀ b, wsN ρ x (joinI l D t) b l = wsN ρ x D b l) ∧ okN ρ x (joinI l D t) l = okN ρ x D l := stwC_ext l (fun i _ i2 => if_pos i2)
theorem d4_up (h : d4 D) (l : Int) {d : Int} (h1 : 0 ≤ d) (h2 : d < 4) : d4 (upI D l d) := by
  intro i
  unfold upI
  split
  · exact ⟨h1, h2⟩
  · exact h i
theorem d4_join (h : d4 D) {t : Int → Int} (ht : dB 4 t) (l : Int) : d4 (joinI l D t) := by
  intro i
  unfold joinI
  split
  · exact h i
  · exact ht _
/-- no way on from here -/
theorem skip_bad {l m : Nat} (hlm : l + m = (rL ρ).toNat) (h : okN ρ x D l = 0) (a : Acc) : TF 4 m (fun t => upS ρ x (joinI l D t)) a = a := by
  refine TF_skip (by omega) _ _ _ (fun t _ => ?_)
  have e := (join_ext (ρ := ρ) (x := x) (D := D) l t).2.2
  have e2 := okN_stop (ρ := ρ) (x := x) (D := joinI l D t) (j := l) (by rw [e]; exact h) m
  rw [hlm] at e2
  unfold upS stwC
  rw [if_neg (show ¬ okN ρ x (joinI l D t) (rL ρ).toNat = 1 by omega), if_neg (by omega)]
theorem skip_many {l m : Nat} (hlm : l + m = (rL ρ).toNat) (hD : d4 D) {a : Acc} (h : a.1 ≤ membN (usN x D l) 8) : TF 4 m (fun t => upS ρ x (joinI l D t)) a = a := by
  refine TF_skip (by omega) _ _ _ (fun t ht => ?_)
  have e := (join_ext (ρ := ρ) (x := x) (D := D) l t).1
  have e2 := usN_mono (x := x) (d4_join hD ht l) l m
  rw [e, hlm] at e2
  unfold upS
  rw [if_neg]
  rintro ⟨z1, z2⟩
  unfold stwC at z1 z2
  split at z2
  · omega
  · rename_i hc
    rw [if_neg hc] at z1
    omega
theorem accB_TF (m : Nat) (l : Int) (D : Int → Int) {a : Acc} (h : accB 8 a) : accB 8 (TF 4 m (fun t => upS ρ x (joinI l D t)) a) := by
  have : ∀ (m : Nat) (up : (Int → Int) → Acc → Acc) (a : Acc), (∀ t b, accB 8 b → accB 8 (up t b)) → accB 8 a → accB 8 (TF 4 m up a) := by
    intro m
    induction m with
    | zero => intro up a h1 h2; exact h1 _ _ h2
    | succ m ih =>
      intro up a h1 h2
      simp only [TF]
      exact foldN_inv _ h2 (fun k b hb => ih _ _ (fun t c hc => h1 _ _ hc) hb)
  exact this m _ a (fun t b hb => upS_b x _ hb) h
theorem c_goStow (h : XC G O y ρ x X r bd ld) (hw : wfR ρ) (hx : wfS ρ x) : ∀ (m l : Nat), l + m = (rL ρ).toNat → ∀ (n : Nat), m + 1 ≤ n → ∀ (D : Int → Int), d4 D → okN ρ x D l = 1 → ∀ (a : Acc), accB 8 a → ∀ u, stI O y X ρ x D l a u → ∃ u', fy_B_goStow_N G n u X (iI l) (iI (usN x D l)) (X + 30) = some u' ∧ stI O y X ρ x D l (TF 4 m (fun t => upS ρ x (joinI l D t)) a) u' := by
  have hl := hw.2.2.2.1
  have hB := hw.2.2.1
  have hXn := h.1.1.2.1
  have hr := hw.2.1
  intro m
  induction m with
  | zero =>
    intro l hlm n hn D hD hok a ha u hu
    obtain ⟨n, rfl⟩ : ∃ k, n = k + 1 := ⟨n - 1, by omega⟩
    obtain ⟨g1, g2, g3, g4, g5, g6⟩ := hu
    have hc := h.fr g1 rfl
    have hub := usN_b (x := x) hD l
    have hmb := membN_b (usN x D l) 8
    have ebc := c_bitCount hub.1 (by omega)
    have e16 : gI 0 16 u X = some (iI (if a.1 = 1000000 then -1 else a.1)) := by rw [gI_ok hc.1.1.1, g2]
    have hll : (l : Int) = rL ρ := by omega
    -- the leaf
    have hcost : stwC ρ x (joinI l D (fun _ => 0)) = membN (usN x D l) 8 := by
      have e := join_ext (ρ := ρ) (x := x) (D := D) l (fun _ => 0)
      unfold stwC
      rw [show (rL ρ).toNat = l by omega, e.2.2, e.1, if_pos hok]
    have hrow : (fun k => if 0 ≤ k ∧ k < rL ρ ∧ x (20 + k) = -1 then joinI l D (fun _ => 0) k else -1) = (fun k => if 0 ≤ k ∧ k < rL ρ ∧ x (20 + k) = -1 then D k else -1) := by
      funext k
      by_cases c : 0 ≤ k ∧ k < rL ρ ∧ x (20 + k) = -1
      · rw [if_pos c, if_pos c]
        unfold joinI
        rw [if_pos (by omega)]
      · rw [if_neg c, if_neg c]
    have leaf : membN (usN x D l) 8 < a.1 → ∃ u', fy_B_goStow_j19 G (fy_B_goStow_N G n) u X (iI l) (iI (usN x D l)) (X + 30) = some u' ∧ stI O y X ρ x D l (TF 4 0 (fun t => upS ρ x (joinI l D t)) a) u' := by
      intro hlt
      have t27 := x_t27 hc.1
      have t26 := x_t26 hc.1
      have ecp := cp_n (y := u) (y' := sF u X 16 (iI (membN (usN x D l) 8))) t27 t26 rfl (z := l) (by omega) (by omega) (by omega) (by omega)
      refine ⟨cA (sF u X 16 (iI (membN (usN x D l) 8))) (X + 27) (X + 26) l, ?_, ?_⟩
      · have S1 := hc.1.fr (yF.refl.sf (L := [216]) (v := iI (membN (usN x D l) 8)) (k := 16) (by rw [x_lb hc.1]; rfl)) rfl
        unfold fy_B_goStow_j19
        rw [x_c hc.1, obs, c_loads hc.1 hc.2.1, obs, hll, if_pos rfl, ebc, obs, x_wI hc.1 rfl, obs, x_12 S1, obs, x_11 S1, obs, ← hll, show (0 : Int32) = iI 0 from rfl, ecp, obs, Int.toNat_natCast]
      · show stI O y X ρ x D l (upS ρ x (joinI l D (fun _ => 0)) a) _
        unfold upS
        rw [hcost, if_pos ⟨hmb.1, hlt⟩, hrow]
        refine ⟨(g1.sf (by rw [x_lb h.1]; rfl)).sa (by rw [x_o26 h.1]; rfl), ?_, fun _ z z1 z2 => ?_, fun b b1 b2 => ?_, fun i i1 i2 => ?_, fun z z1 z2 => ?_⟩
        · show yf (sF u X 16 (iI (membN (usN x D l) 8))) X 16 = _
          rw [sF_get, if_pos ⟨rfl, rfl⟩]
          simp only
          rw [if_neg (by omega)]
        · rw [cA_eq (by omega)]
          show ya u (X + 27) z.toNat = _
          rw [g6 z z1 (by omega)]
          simp only
          by_cases c : x (20 + z) = -1
          · rw [if_pos c, if_pos ⟨z1, z2, c⟩]
          · rw [if_neg c, if_neg (fun w => c w.2.2)]
        · rw [cA_ne (by omega)]
          exact g4 b b1 b2
        · rw [cA_ne (by omega)]
          exact g5 i i1 i2
        · rw [cA_ne (by omega)]
          exact g6 z z1 z2
    show ∃ u', fy_B_goStow G (fy_B_goStow_N G n) u X (iI l) (iI (usN x D l)) (X + 30) = some u' ∧ _
    unfold fy_B_goStow
    rw [e16, obs]
    by_cases h6 : a.1 = 1000000
    · rw [if_pos h6, if_pos (by decide)]
      exact leaf (by omega)
    · have hab : 0 ≤ a.1 ∧ a.1 ≤ 8 := by rcases ha with z | z <;> omega
      rw [if_neg h6, i0, if_neg (by rw [iI_lt (by omega) (by omega) (by omega) (by omega)]; omega), ebc, obs, obs]
      by_cases hlt : membN (usN x D l) 8 < a.1
      · rw [if_pos (by rw [iI_lt (by omega) (by omega) (by omega) (by omega)]; exact hlt)]
        exact leaf hlt
      · rw [if_neg (by rw [iI_lt (by omega) (by omega) (by omega) (by omega)]; exact hlt)]
        refine ⟨u, rfl, ?_⟩
        rw [skip_many hlm hD (by omega)]
        exact ⟨g1, g2, g3, g4, g5, g6⟩
  | succ m ih =>
    intro l hlm n hn D hD hok a ha u hu
    obtain ⟨n, rfl⟩ : ∃ k, n = k + 1 := ⟨n - 1, by omega⟩
    have hu0 := hu
    obtain ⟨g1, g2, g3, g4, g5, g6⟩ := hu
    have hc := h.fr g1 rfl
    have hub := usN_b (x := x) hD l
    have hmb := membN_b (usN x D l) 8
    have ebc := c_bitCount hub.1 (by omega)
    have e16 : gI 0 16 u X = some (iI (if a.1 = 1000000 then -1 else a.1)) := by rw [gI_ok hc.1.1.1, g2]
    have hll : (l : Int) < rL ρ := by omega
    have hlw := hw.2.2.2.2.2.2.2.2.2.2.1 (l : Int) (by omega) hll
    have hxl := hx.2.1 (l : Int) (by omega) hll
    -- from the beginning of the load
    have node : ∃ u', fy_B_goStow_j19 G (fy_B_goStow_N G n) u X (iI l) (iI (usN x D l)) (X + 30) = some u' ∧ stI O y X ρ x D l (TF 4 (m + 1) (fun t => upS ρ x (joinI l D t)) a) u' := by
      have f1 : yF O [11, 10, 14, 216] 0 0 u (yw u (X + 27) (l : Int).toNat (iI (-1))) := yF.refl.w (by rw [x_o27 h.1]; rfl)
      have hc1 := hc.fr f1 rfl
      have a5 := s_a5 hc1.2.2.1 hc1.2.2.2 hl.2 (l := l) (by omega) hll
      have hu1 : stI O y X ρ x D l a (yw u (X + 27) (l : Int).toNat (iI (-1))) := by
        refine ⟨g1.t0 f1, g2, fun q z z1 z2 => ?_, fun b b1 b2 => ?_, fun i i1 i2 => ?_, fun z z1 z2 => ?_⟩
        · rw [yw_ne (by omega)]; exact g3 q z z1 z2
        · rw [yw_ne (by omega)]; exact g4 b b1 b2
        · rw [yw_ne (by omega)]; exact g5 i i1 i2
        · rw [yw_get, if_neg (by omega)]; exact g6 z z1 z2
      have l27 : ya (yw u (X + 27) (l : Int).toNat (iI (-1))) (X + 27) (l : Int).toNat = iI (-1) := by rw [yw_get, if_pos ⟨rfl, rfl⟩]
      unfold fy_B_goStow_j19
      rw [x_c hc.1, obs, c_loads hc.1 hc.2.1, obs, if_neg (by rw [iI_eq (by omega) (by omega) (by omega) (by omega)]; omega), x_12 hc.1, obs, show (-1 : Int32) = iI (-1) from rfl, wA_n 7 (x_t27 hc.1) (by omega) (by omega) (by omega), obs]
      generalize yw u (X + 27) (l : Int).toNat (iI (-1)) = w at *
      rw [x_1 hc1.1, obs, s_5 hc1.2.2.1, obs, a5, obs, TF_join]
      by_cases hn9 : x (20 + l) = -1
      rotate_left
      · rw [if_neg (by rw [iI_eq (by omega) (by omega) (by omega) (by omega)]; exact hn9), x_c hc1.1, obs, i1, iI_add]
        have p := pre_ext (ρ := ρ) (x := x) (D := D) l 0
        have eD : upI D l 0 l = 0 := if_pos rfl
        have us1 : usN x (upI D l 0) (l + 1) = usN x D l := by
          simp only [usN]
          rw [if_neg hn9, p.1]
        have ok1 : okN ρ x (upI D l 0) (l + 1) = 1 := by
          simp only [okN]
          rw [if_pos ⟨by rw [p.2.2]; exact hok, fun z => absurd z hn9, fun _ => eD⟩]
        have ws1 : ∀ b, wsN ρ x (upI D l 0) b (l + 1) = wsN ρ x D b l := fun b => by
          simp only [wsN]
          rw [if_neg (fun z => hn9 z.1), p.2.1, Int.add_zero]
        have hu2 : stI O y X ρ x (upI D l 0) (l + 1) a w := by
          obtain ⟨k1, k2, k3, k4, k5, k6⟩ := hu1
          refine ⟨k1, k2, k3, fun b b1 b2 => by rw [ws1]; exact k4 b b1 b2, k5, fun z z1 z2 => ?_⟩
          by_cases hz : z = l
          · rw [hz, l27, if_neg hn9]
          · rw [k6 z z1 (by omega), upI_pre (by omega)]
        obtain ⟨u', e', s'⟩ := ih (l + 1) (by omega) n (by omega) (upI D l 0) (d4_up hD _ (by omega) (by omega)) ok1 a ha w hu2
        rw [us1, show ((l + 1 : Nat) : Int) = (l : Int) + 1 by omega] at e'
        refine ⟨u', by rw [e']; rfl, ?_⟩
        have hrest : foldN (fun d => TF 4 m (fun t => upS ρ x (joinI ((l : Int) + 1) (upI D l d) t))) 4 a = TF 4 m (fun t => upS ρ x (joinI ((l : Int) + 1) (upI D l 0) t)) a := by
          rw [foldN_rest 1 4 (fun d b d1 d2 => ?_) (by omega)]
          · rfl
          · have bad : okN ρ x (upI D l d) (l + 1) = 0 := by
              simp only [okN]
              rw [if_neg]
              rintro ⟨-, -, z⟩
              have := z hn9
              rw [show upI D l (d : Int) l = d from if_pos rfl] at this
              omega
            have := skip_bad (m := m) (by omega) bad b
            rw [show ((l + 1 : Nat) : Int) = (l : Int) + 1 by omega] at this
            exact this
        rw [hrest]
        rw [show ((l + 1 : Nat) : Int) = (l : Int) + 1 by omega] at s'
        obtain ⟨k1, k2, k3, k4, k5, k6⟩ := s'
        exact ⟨k1, k2, k3, fun b b1 b2 => by rw [← ws1]; exact k4 b b1 b2, k5, fun z z1 z2 => by rw [k6 z z1 (by omega), upI_pre (by omega)]⟩
      · rw [hn9, if_pos rfl]
        simp (disch := omega) only [x_0 hc1.1, r_1 hc1.2.1, r_c1 hc1.2.1, r_l hc1.2.1, r_lc hc1.2.1, r_lw hc1.2.1, obs]
        have hloop : ∃ q, lp (fy_B_goStow_b102 G (fy_B_goStow_N G n) X (iI l) (iI (usN x D l)) (X + 30) (iI (rLW ρ l))) (iI 0, w) = some q ∧ stI O y X ρ x D l (foldN (fun d => TF 4 m (fun t => upS ρ x (joinI ((l : Int) + 1) (upI D l d) t))) 4 a) q := by
          refine lp_inv (fun i q => q.1 = iI i ∧ stI O y X ρ x D l (foldN (fun d => TF 4 m (fun t => upS ρ x (joinI ((l : Int) + 1) (upI D l d) t))) i a) q.2) (rB ρ).toNat ?_ ?_ ⟨rfl, show stI O y X ρ x D l (foldN (fun d => TF 4 m (fun t => upS ρ x (joinI ((l : Int) + 1) (upI D l d) t))) 0 a) w from hu1⟩
          · rintro i ⟨k, v⟩ hi ⟨q1, q2⟩
            simp only at q1 q2
            subst q1
            generalize hA : foldN (fun d => TF 4 m (fun t => upS ρ x (joinI ((l : Int) + 1) (upI D l d) t))) i a = A at *
            have hAb : accB 8 A := by
              rw [← hA]
              exact foldN_inv _ ha (fun k b hb => accB_TF m _ _ hb)
            have hAs : foldN (fun d => TF 4 m (fun t => upS ρ x (joinI ((l : Int) + 1) (upI D l d) t))) (i + 1) a = TF 4 m (fun t => upS ρ x (joinI ((l : Int) + 1) (upI D l i) t)) A := by rw [← hA]; rfl
            rw [hAs]
            have q2' := q2
            obtain ⟨k1, k2, k3, k4, k5, k6⟩ := q2
            have hv := h.fr k1 rfl
            have hxi := hx.1 (i : Int) (by omega) (by omega)
            have a1 := s_a1 hv.2.2.1 hv.2.2.2 (b := i) (by omega) (by omega)
            have a30 : aI v (X + 30) (iI i) = some (iI (wsN ρ x D i l)) := by rw [aI_n 8 (x_t30 hv.1) (by omega) (by omega) (by omega), k4 i (by omega) (by omega)]
            have hwb := wsN_b (x := x) (D := D) hw i l (by omega)
            have ef := c_liesFlat hv hw hx (b := i) (m := wsN ρ x D i l + rLW ρ l) (by omega) (by omega) (by omega) (by omega)
            have p := pre_ext (ρ := ρ) (x := x) (D := D) l (i : Int)
            have eD : upI D l (i : Int) l = i := if_pos rfl
            have ws1 : ∀ b, wsN ρ x (upI D l i) b (l + 1) = wsN ρ x D b l + (if (i : Int) = b then rLW ρ l else 0) := fun b => by
              simp only [wsN]
              rw [p.2.1, eD]
              by_cases c : (i : Int) = b
              · rw [if_pos ⟨hn9, c⟩, if_pos c]
              · rw [if_neg (fun z => c z.2), if_neg c]
            have badS : okN ρ x (upI D l i) (l + 1) = 0 → TF 4 m (fun t => upS ρ x (joinI ((l : Int) + 1) (upI D l i) t)) A = A := fun bad => by
              have := skip_bad (m := m) (by omega) bad A
              rw [show ((l + 1 : Nat) : Int) = (l : Int) + 1 by omega] at this
              exact this
            left
            simp (disch := omega) only [fy_B_goStow_b102, x_c hv.1, c_boards hv.1 hv.2.1, iI_lit, iI_add, iI_sub, iI_mul, iI_neg, obs, if_true, if_false, Int.reduceEq, Int.reduceLE, Int.reduceLT, Int.reduceAdd, Int.reduceSub, Int.reduceMul, Int.reduceNeg, Nat.reduceEqDiff, iI_le, iI_lt, iI_eq, x_1 hv.1, s_1 hv.2.2.1, a1, a30, ef]
            rw [if_neg (by omega)]
            by_cases c1 : x (4 + i) = 0
            rotate_left
            · rw [if_neg c1]
              have bad : okN ρ x (upI D l i) (l + 1) = 0 := by
                simp only [okN]
                rw [if_neg]
                rintro ⟨-, z, -⟩
                have := (z hn9).2.1
                rw [eD] at this
                exact c1 this
              refine ⟨_, rfl, rfl, ?_⟩
              rw [badS bad]
              exact q2'
            · rw [if_pos c1]
              by_cases c2 : rBW ρ i < burd ρ x i + (wsN ρ x D i l + rLW ρ l)
              · simp only [if_pos c2, if_true]
                have bad : okN ρ x (upI D l i) (l + 1) = 0 := by
                  simp only [okN]
                  rw [if_neg]
                  rintro ⟨-, z, -⟩
                  have := (z hn9).2.2
                  rw [eD] at this
                  have w9 := ws1 i
                  rw [if_pos rfl] at w9
                  rw [show (l : Nat) + 1 = l + 1 from rfl] at this
                  omega
                refine ⟨_, rfl, rfl, ?_⟩
                rw [badS bad]
                exact q2'
              · simp only [if_neg c2, show ¬ iI 1 = iI 0 by decide, if_false]
                have ok1 : okN ρ x (upI D l i) (l + 1) = 1 := by
                  have w9 := ws1 i
                  rw [if_pos rfl] at w9
                  simp only [okN]
                  rw [if_pos ⟨by rw [p.2.2]; exact hok, fun z => ⟨by rw [eD]; omega, by rw [eD]; exact c1, by rw [eD, w9]; omega⟩, fun z => absurd hn9 z⟩]
                have us1 : usN x (upI D l i) (l + 1) = orb (usN x D l) i := by
                  simp only [usN]
                  rw [if_pos hn9, p.1, eD]
                have ho := orb_i (S := usN x D l) (l := i) (by omega) (by omega) hub.1 (by omega)
                have w1 : wA v (X + 27) (iI l) (iI i) = some (yw v (X + 27) (l : Int).toNat (iI i)) := wA_n 7 (x_t27 hv.1) (by omega) (by omega) (by omega)
                have f2 : yF O [11, 10, 14, 216] 0 0 v (yw v (X + 27) (l : Int).toNat (iI i)) := yF.refl.w (by rw [x_o27 h.1]; rfl)
                have a30' : aI (yw v (X + 27) (l : Int).toNat (iI i)) (X + 30) (iI i) = some (iI (wsN ρ x D i l)) := by rw [aI_yw (by omega)]; exact a30
                have w2 : wA (yw v (X + 27) (l : Int).toNat (iI i)) (X + 30) (iI i) (iI (wsN ρ x D i l + rLW ρ l)) = some (yw (yw v (X + 27) (l : Int).toNat (iI i)) (X + 30) (i : Int).toNat (iI (wsN ρ x D i l + rLW ρ l))) := wA_n 8 (x_t30 hv.1) (by omega) (by omega) (by omega)
                have f3 : yF O [11, 10, 14, 216] 0 0 v (yw (yw v (X + 27) (l : Int).toNat (iI i)) (X + 30) (i : Int).toNat (iI (wsN ρ x D i l + rLW ρ l))) := f2.w (by rw [x_o30 h.1]; rfl)
                have hv3 := hv.fr f3 rfl
                have hu3 : stI O y X ρ x (upI D l i) (l + 1) A (yw (yw v (X + 27) (l : Int).toNat (iI i)) (X + 30) (i : Int).toNat (iI (wsN ρ x D i l + rLW ρ l))) := by
                  refine ⟨k1.t0 f3, k2, fun q z z1 z2 => ?_, fun b b1 b2 => ?_, fun j j1 j2 => ?_, fun z z1 z2 => ?_⟩
                  · rw [yw_ne (by omega), yw_ne (by omega)]; exact k3 q z z1 z2
                  · rw [yw_get, ws1]
                    by_cases hb : b = i
                    · rw [if_pos ⟨rfl, by rw [hb]⟩, if_pos hb.symm, hb]
                    · rw [if_neg (by omega), yw_ne (by omega), if_neg (fun z => hb z.symm), Int.add_zero]
                      exact k4 b b1 b2
                  · rw [yw_get, if_neg (by omega), yw_ne (by omega)]
                    exact k5 j j1 j2
                  · rw [yw_ne (by omega), yw_get]
                    by_cases hz : z = l
                    · rw [if_pos ⟨rfl, by rw [hz]⟩, hz, if_pos hn9, eD]
                    · rw [if_neg (by omega), k6 z z1 (by omega), upI_pre (by omega)]
                obtain ⟨u', e', s'⟩ := ih (l + 1) (by omega) n (by omega) (upI D l i) (d4_up hD _ (by omega) (by omega)) ok1 A hAb _ hu3
                rw [us1, show ((l + 1 : Nat) : Int) = (l : Int) + 1 by omega] at e'
                rw [show ((l + 1 : Nat) : Int) = (l : Int) + 1 by omega] at s'
                generalize TF 4 m (fun t => upS ρ x (joinI ((l : Int) + 1) (upI D l i) t)) A = A2 at *
                obtain ⟨j1, j2, j3, j4, j5, j6⟩ := s'
                have hv4 := h.fr j1 rfl
                have b30 : aI u' (X + 30) (iI i) = some (iI (wsN ρ x D i l + rLW ρ l)) := by
                  rw [aI_n 8 (x_t30 hv4.1) (by omega) (by omega) (by omega), j4 i (by omega) (by omega), ws1, if_pos rfl]
                have w3 : wA u' (X + 30) (iI i) (iI (wsN ρ x D i l)) = some (yw u' (X + 30) (i : Int).toNat (iI (wsN ρ x D i l))) := wA_n 8 (x_t30 hv4.1) (by omega) (by omega) (by omega)
                refine ⟨(iI ((i : Int) + 1), yw u' (X + 30) (i : Int).toNat (iI (wsN ρ x D i l))), ?_, rfl, j1.w (by rw [x_o30 h.1]; rfl), j2, fun q z z1 z2 => ?_, fun b b1 b2 => ?_, fun j j1 j2 => ?_, fun z z1 z2 => ?_⟩
                · rw [x_12 hv.1, obs, w1, obs, a30', obs, iI_add, w2, obs, x_c hv3.1, obs, ho.1, e', obs, b30, obs, iI_sub, show wsN ρ x D i l + rLW ρ l - rLW ρ l = wsN ρ x D i l by omega, w3, obs]
                  try rw [if_neg (by decide)]
                · rw [yw_ne (by omega)]; exact j3 q z z1 z2
                · rw [yw_get]
                  by_cases hb : b = i
                  · rw [if_pos ⟨rfl, by rw [hb]⟩, hb]
                  · rw [if_neg (by omega), j4 b b1 b2, ws1, if_neg (fun z => hb z.symm), Int.add_zero]
                · rw [yw_get, if_neg (by omega)]
                  exact j5 j j1 j2
                · rw [yw_ne (by omega), j6 z z1 (by omega), upI_pre (by omega)]
          · rintro ⟨k, v⟩ ⟨q1, q2⟩
            simp only at q1 q2
            subst q1
            have hv := h.fr q2.1 rfl
            refine ⟨v, ?_, ?_⟩
            · simp (disch := omega) only [fy_B_goStow_b102, x_c hv.1, c_boards hv.1 hv.2.1, iI_lit, iI_add, iI_sub, iI_mul, iI_neg, obs, if_true, if_false, Int.reduceEq, Int.reduceLE, Int.reduceLT, Int.reduceAdd, Int.reduceSub, Int.reduceMul, Int.reduceNeg, Nat.reduceEqDiff, iI_le, iI_lt, iI_eq]
              rw [if_pos (by omega)]
            · rw [foldN_rest (rB ρ).toNat 4 (fun d b d1 d2 => ?_) (by omega)]
              · exact q2
              · have bad : okN ρ x (upI D l d) (l + 1) = 0 := by
                  simp only [okN]
                  rw [if_neg]
                  rintro ⟨-, z, -⟩
                  have := (z hn9).1
                  rw [show upI D l (d : Int) l = d from if_pos rfl] at this
                  omega
                have := skip_bad (m := m) (by omega) bad b
                rw [show ((l + 1 : Nat) : Int) = (l : Int) + 1 by omega] at this
                exact this
        obtain ⟨q, eq, hq⟩ := hloop
        exact ⟨q, by rw [show ((0, w) : Int32 × yS) = (iI 0, w) from rfl, eq]; rfl, hq⟩
    show ∃ u', fy_B_goStow G (fy_B_goStow_N G n) u X (iI l) (iI (usN x D l)) (X + 30) = some u' ∧ _
    unfold fy_B_goStow
    rw [e16, obs]
    by_cases h6 : a.1 = 1000000
    · rw [if_pos h6, if_pos (by decide)]
      exact node
    · have hab : 0 ≤ a.1 ∧ a.1 ≤ 8 := by rcases ha with z | z <;> omega
      rw [if_neg h6, i0, if_neg (by rw [iI_lt (by omega) (by omega) (by omega) (by omega)]; omega), ebc, obs, obs]
      by_cases hlt : membN (usN x D l) 8 < a.1
      · rw [if_pos (by rw [iI_lt (by omega) (by omega) (by omega) (by omega)]; exact hlt)]
        exact node
      · rw [if_neg (by rw [iI_lt (by omega) (by omega) (by omega) (by omega)]; exact hlt)]
        refine ⟨u, rfl, ?_⟩
        rw [skip_many hlm hD (by omega)]
        exact hu0
end G4

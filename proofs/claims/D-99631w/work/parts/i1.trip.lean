/-! LAYER 3: trips: the component -/
set_option maxRecDepth 100000
def tiI (O : Nat → Nat) (y : yS) (X : Nat) (ρ : Rv) (x D : Int → Int) (l : Nat) (a : Acc) (u : yS) : Prop :=
  yF O [11, 10, 14, 216] 0 0 y u ∧ yf u X 16 = iI (if a.1 = 1000000 then -1 else a.1) ∧ (¬ a.1 = 1000000 → ∀ z, 0 ≤ z → z < rL ρ → ya u (X + 26) z.toNat = iI (a.2 z)) ∧ (∀ b, 0 ≤ b → b < 8 → ya u (X + 30) b.toNat = iI (wsN ρ x D b l)) ∧ (∀ z, 0 ≤ z → z < (l : Int) → ya u (X + 27) z.toNat = iI (if x (20 + z) = -1 then D z else -1))
section I1
variable {G : ai_G} {O : Nat → Nat} {y : yS} {ρ : Rv} {x D : Int → Int} {X r : Nat} {bd ld : Nat → Nat} {W : Int}
theorem c_goTrips (h : XC G O y ρ x X r bd ld) (hw : wfR ρ) (hx : wfS ρ x) (hW1 : 0 ≤ W) (hW2 : W ≤ 1000) : ∀ (m l : Nat), l + m = (rL ρ).toNat → ∀ (n : Nat), m + 1 ≤ n → ∀ (D : Int → Int), rgT x D l = 1 → flT ρ x W D l = 1 → ∀ (a : Acc), accB 8 a → ∀ u, tiI O y X ρ x D l a u → ∃ u', fy_B_goTrips_N G n u X (iI W) (iI l) (iI (mxT x D l)) (X + 30) = some u' ∧ tiI O y X ρ x D l (TF 8 m (fun t => upT ρ x W (joinI l D t)) a) u' := by
  have hl := hw.2.2.2.1
  have hXn := h.1.1.2.1
  have hB := hw.2.2.1
  have hr := hw.2.1
  intro m
  induction m with
  | zero =>
    intro l hlm n hn D hrg hfl a ha u hu
    obtain ⟨n, rfl⟩ : ∃ k, n = k + 1 := ⟨n - 1, by omega⟩
    have hu0 := hu
    obtain ⟨g1, g2, g3, g4, g6⟩ := hu
    have hc := h.fr g1 rfl
    have hmb := mxT_b x D l
    have e16 : gI 0 16 u X = some (iI (if a.1 = 1000000 then -1 else a.1)) := by rw [gI_ok hc.1.1.1, g2]
    have hll : (l : Int) = rL ρ := by omega
    have hLl : (rL ρ).toNat = l := by omega
    have e := joinT (ρ := ρ) (x := x) (D := D) (W := W) l (fun _ => 0)
    have hup : upT ρ x W (joinI l D (fun _ => 0)) a = if mxT x D l < a.1 then (mxT x D l, rwT ρ x D) else a := by
      have hrow : rwT ρ x (joinI l D (fun _ => 0)) = rwT ρ x D := by
        funext k
        unfold rwT
        by_cases c : 0 ≤ k ∧ k < rL ρ ∧ x (20 + k) = -1
        · rw [if_pos c, if_pos c]
          exact if_pos (by omega)
        · rw [if_neg c, if_neg c]
      unfold upT
      rw [hLl, e.1, e.2.1, e.2.2, hrow]
      by_cases c : mxT x D l < a.1
      · rw [if_pos c, if_pos ⟨⟨hrg, hfl⟩, c⟩]
      · rw [if_neg c, if_neg (fun z => c z.2)]
    have leaf : mxT x D l < a.1 → ∃ u', fy_B_goTrips_j16 G (fy_B_goTrips_N G n) u X (iI W) (iI l) (iI (mxT x D l)) (X + 30) = some u' ∧ tiI O y X ρ x D l (TF 8 0 (fun t => upT ρ x W (joinI l D t)) a) u' := by
      intro hlt
      have t27 := x_t27 hc.1
      have t26 := x_t26 hc.1
      have ecp := cp_n (y := u) (y' := sF u X 16 (iI (mxT x D l))) t27 t26 rfl (z := l) (by omega) (by omega) (by omega) (by omega)
      refine ⟨cA (sF u X 16 (iI (mxT x D l))) (X + 27) (X + 26) l, ?_, ?_⟩
      · have S1 := hc.1.fr (yF.refl.sf (L := [216]) (v := iI (mxT x D l)) (k := 16) (by rw [x_lb hc.1]; rfl)) rfl
        unfold fy_B_goTrips_j16
        rw [x_c hc.1, obs, c_loads hc.1 hc.2.1, obs, hll, if_pos rfl, x_wI hc.1 rfl, obs, x_12 S1, obs, x_11 S1, obs, ← hll, show (0 : Int32) = iI 0 from rfl, ecp, obs, Int.toNat_natCast]
      · show tiI O y X ρ x D l (upT ρ x W (joinI l D (fun _ => 0)) a) _
        rw [hup, if_pos hlt]
        refine ⟨(g1.sf (by rw [x_lb h.1]; rfl)).sa (by rw [x_o26 h.1]; rfl), ?_, fun _ z z1 z2 => ?_, fun b b1 b2 => ?_, fun z z1 z2 => ?_⟩
        · show yf (sF u X 16 (iI (mxT x D l))) X 16 = _
          rw [sF_get, if_pos ⟨rfl, rfl⟩]
          simp only
          rw [if_neg (by omega)]
        · rw [cA_eq (by omega)]
          show ya u (X + 27) z.toNat = iI (rwT ρ x D z)
          rw [g6 z z1 (by omega)]
          unfold rwT
          by_cases c : x (20 + z) = -1
          · rw [if_pos c, if_pos ⟨z1, z2, c⟩]
          · rw [if_neg c, if_neg (fun w => c w.2.2)]
        · rw [cA_ne (by omega)]
          exact g4 b b1 b2
        · rw [cA_ne (by omega)]
          exact g6 z z1 z2
    show ∃ u', fy_B_goTrips G (fy_B_goTrips_N G n) u X (iI W) (iI l) (iI (mxT x D l)) (X + 30) = some u' ∧ _
    unfold fy_B_goTrips
    rw [e16, obs]
    by_cases h6 : a.1 = 1000000
    · rw [if_pos h6, if_pos (by decide)]
      exact leaf (by omega)
    · have hab : 0 ≤ a.1 ∧ a.1 ≤ 8 := by rcases ha with z | z <;> omega
      rw [if_neg h6, i0, if_neg (by rw [iI_lt (by omega) (by omega) (by omega) (by omega)]; omega), obs]
      by_cases hlt : mxT x D l < a.1
      · rw [if_pos (by rw [iI_lt (by omega) (by omega) (by omega) (by omega)]; exact hlt)]
        exact leaf hlt
      · rw [if_neg (by rw [iI_lt (by omega) (by omega) (by omega) (by omega)]; exact hlt)]
        refine ⟨u, rfl, ?_⟩
        rw [skipT_many hlm (by omega)]
        exact hu0
  | succ m ih =>
    intro l hlm n hn D hrg hfl a ha u hu
    obtain ⟨n, rfl⟩ : ∃ k, n = k + 1 := ⟨n - 1, by omega⟩
    have hu0 := hu
    obtain ⟨g1, g2, g3, g4, g6⟩ := hu
    have hc := h.fr g1 rfl
    have hmb := mxT_b x D l
    have e16 : gI 0 16 u X = some (iI (if a.1 = 1000000 then -1 else a.1)) := by rw [gI_ok hc.1.1.1, g2]
    have hll : (l : Int) < rL ρ := by omega
    have hlw := hw.2.2.2.2.2.2.2.2.2.2.1 (l : Int) (by omega) hll
    have hxl := hx.2.1 (l : Int) (by omega) hll
    have node : ∃ u', fy_B_goTrips_j16 G (fy_B_goTrips_N G n) u X (iI W) (iI l) (iI (mxT x D l)) (X + 30) = some u' ∧ tiI O y X ρ x D l (TF 8 (m + 1) (fun t => upT ρ x W (joinI l D t)) a) u' := by
      have f1 : yF O [11, 10, 14, 216] 0 0 u (yw u (X + 27) (l : Int).toNat (iI (-1))) := yF.refl.w (by rw [x_o27 h.1]; rfl)
      have hc1 := hc.fr f1 rfl
      have a5 := s_a5 hc1.2.2.1 hc1.2.2.2 hl.2 (l := l) (by omega) hll
      have hu1 : tiI O y X ρ x D l a (yw u (X + 27) (l : Int).toNat (iI (-1))) := by
        refine ⟨g1.t0 f1, g2, fun q z z1 z2 => ?_, fun b b1 b2 => ?_, fun z z1 z2 => ?_⟩
        · rw [yw_ne (by omega)]; exact g3 q z z1 z2
        · rw [yw_ne (by omega)]; exact g4 b b1 b2
        · rw [yw_get, if_neg (by omega)]; exact g6 z z1 z2
      have l27 : ya (yw u (X + 27) (l : Int).toNat (iI (-1))) (X + 27) (l : Int).toNat = iI (-1) := by rw [yw_get, if_pos ⟨rfl, rfl⟩]
      unfold fy_B_goTrips_j16
      rw [x_c hc.1, obs, c_loads hc.1 hc.2.1, obs, if_neg (by rw [iI_eq (by omega) (by omega) (by omega) (by omega)]; omega), x_12 hc.1, obs, show (-1 : Int32) = iI (-1) from rfl, wA_n 7 (x_t27 hc.1) (by omega) (by omega) (by omega), obs]
      generalize yw u (X + 27) (l : Int).toNat (iI (-1)) = w at *
      rw [x_1 hc1.1, obs, s_5 hc1.2.2.1, obs, a5, obs, TF_join]
      by_cases hn9 : x (20 + l) = -1
      rotate_left
      · rw [if_neg (by rw [iI_eq (by omega) (by omega) (by omega) (by omega)]; exact hn9), x_c hc1.1, obs, i1, iI_add]
        obtain ⟨p1, p2, p3, p4⟩ := stepT0 (ρ := ρ) (W := W) (D := D) hn9 0
        have hu2 : tiI O y X ρ x (upI D l 0) (l + 1) a w := by
          obtain ⟨k1, k2, k3, k4, k6⟩ := hu1
          refine ⟨k1, k2, k3, fun b b1 b2 => by rw [p3]; exact k4 b b1 b2, fun z z1 z2 => ?_⟩
          by_cases hz : z = l
          · rw [hz, l27, if_neg hn9]
          · rw [k6 z z1 (by omega), upI_pre (by omega)]
        obtain ⟨u', e', s'⟩ := ih (l + 1) (by omega) n (by omega) (upI D l 0) ((p2 hrg).mpr rfl) (p4 hfl) a ha w hu2
        rw [p1, show ((l + 1 : Nat) : Int) = (l : Int) + 1 by omega] at e'
        refine ⟨u', by rw [e']; rfl, ?_⟩
        have hrest : foldN (fun d => TF 8 m (fun t => upT ρ x W (joinI ((l : Int) + 1) (upI D l d) t))) 8 a = TF 8 m (fun t => upT ρ x W (joinI ((l : Int) + 1) (upI D l 0) t)) a := by
          rw [foldN_rest 1 8 (fun d b d1 d2 => ?_) (by omega)]
          · rfl
          · have bad : ¬ (rgT x (upI D l d) (l + 1) = 1 ∧ flT ρ x W (upI D l d) (l + 1) = 1) := fun z => by
              have := ((stepT0 (ρ := ρ) (W := W) (D := D) hn9 d).2.1 hrg).mp z.1
              omega
            have := skipT_bad (m := m) (by omega) bad b
            rw [show ((l + 1 : Nat) : Int) = (l : Int) + 1 by omega] at this
            exact this
        rw [hrest]
        rw [show ((l + 1 : Nat) : Int) = (l : Int) + 1 by omega] at s'
        obtain ⟨k1, k2, k3, k4, k6⟩ := s'
        exact ⟨k1, k2, k3, fun b b1 b2 => by rw [← p3]; exact k4 b b1 b2, fun z z1 z2 => by rw [k6 z z1 (by omega), upI_pre (by omega)]⟩
      · rw [hn9, if_pos rfl]
        simp (disch := omega) only [x_0 hc1.1, r_1 hc1.2.1, r_c1 hc1.2.1, r_l hc1.2.1, r_lc hc1.2.1, r_lw hc1.2.1, obs]
        have hloop : ∃ q, lp (fy_B_goTrips_b98 G (fy_B_goTrips_N G n) X (iI W) (iI l) (iI (mxT x D l)) (X + 30) (iI (rLW ρ l))) (iI 0, w) = some q ∧ tiI O y X ρ x D l (foldN (fun d => TF 8 m (fun t => upT ρ x W (joinI ((l : Int) + 1) (upI D l d) t))) 8 a) q := by
          refine lp_inv (fun i q => q.1 = iI i ∧ tiI O y X ρ x D l (foldN (fun d => TF 8 m (fun t => upT ρ x W (joinI ((l : Int) + 1) (upI D l d) t))) i a) q.2) ((mxT x D l).toNat + 1) ?_ ?_ ⟨rfl, show tiI O y X ρ x D l (foldN (fun d => TF 8 m (fun t => upT ρ x W (joinI ((l : Int) + 1) (upI D l d) t))) 0 a) w from hu1⟩
          · rintro i ⟨k, v⟩ hi ⟨q1, q2⟩
            simp only at q1 q2
            subst q1
            generalize hA : foldN (fun d => TF 8 m (fun t => upT ρ x W (joinI ((l : Int) + 1) (upI D l d) t))) i a = A at *
            have hAb : accB 8 A := by
              rw [← hA]
              exact foldN_inv _ ha (fun k b hb => accT_TF hw m _ _ hb)
            have hAs : foldN (fun d => TF 8 m (fun t => upT ρ x W (joinI ((l : Int) + 1) (upI D l d) t))) (i + 1) a = TF 8 m (fun t => upT ρ x W (joinI ((l : Int) + 1) (upI D l i) t)) A := by rw [← hA]; rfl
            rw [hAs]
            have q2' := q2
            obtain ⟨k1, k2, k3, k4, k6⟩ := q2
            have hv := h.fr k1 rfl
            have a30 : aI v (X + 30) (iI i) = some (iI (wsN ρ x D i l)) := by rw [aI_n 8 (x_t30 hv.1) (by omega) (by omega) (by omega), k4 i (by omega) (by omega)]
            have hwb := wsN_b (x := x) (D := D) hw i l (by omega)
            obtain ⟨p1, p2, p3, p4⟩ := stepT (ρ := ρ) (W := W) (D := D) hn9 (i : Int)
            have eD : upI D l (i : Int) l = i := if_pos rfl
            left
            simp (disch := omega) only [fy_B_goTrips_b98, iI_lit, iI_add, iI_sub, iI_mul, iI_neg, obs, if_true, if_false, Int.reduceEq, Int.reduceLE, Int.reduceLT, Int.reduceAdd, Int.reduceSub, Int.reduceMul, Int.reduceNeg, Nat.reduceEqDiff, iI_le, iI_lt, iI_eq, a30]
            rw [if_neg (by omega)]
            by_cases c2 : wsN ρ x D i l + rLW ρ l ≤ W
            rotate_left
            · rw [if_neg c2]
              have bad : ¬ (rgT x (upI D l i) (l + 1) = 1 ∧ flT ρ x W (upI D l i) (l + 1) = 1) := fun z => c2 ((p4 hfl).mp z.2)
              have := skipT_bad (m := m) (by omega) bad A
              rw [show ((l + 1 : Nat) : Int) = (l : Int) + 1 by omega] at this
              refine ⟨_, rfl, rfl, ?_⟩
              rw [this]
              exact q2'
            · rw [if_pos c2]
              have w1 : wA v (X + 27) (iI l) (iI i) = some (yw v (X + 27) (l : Int).toNat (iI i)) := wA_n 7 (x_t27 hv.1) (by omega) (by omega) (by omega)
              have f2 : yF O [11, 10, 14, 216] 0 0 v (yw v (X + 27) (l : Int).toNat (iI i)) := yF.refl.w (by rw [x_o27 h.1]; rfl)
              have a30' : aI (yw v (X + 27) (l : Int).toNat (iI i)) (X + 30) (iI i) = some (iI (wsN ρ x D i l)) := by rw [aI_yw (by omega)]; exact a30
              have w2 : wA (yw v (X + 27) (l : Int).toNat (iI i)) (X + 30) (iI i) (iI (wsN ρ x D i l + rLW ρ l)) = some (yw (yw v (X + 27) (l : Int).toNat (iI i)) (X + 30) (i : Int).toNat (iI (wsN ρ x D i l + rLW ρ l))) := wA_n 8 (x_t30 hv.1) (by omega) (by omega) (by omega)
              have f3 : yF O [11, 10, 14, 216] 0 0 v (yw (yw v (X + 27) (l : Int).toNat (iI i)) (X + 30) (i : Int).toNat (iI (wsN ρ x D i l + rLW ρ l))) := f2.w (by rw [x_o30 h.1]; rfl)
              have hv3 := hv.fr f3 rfl
              have hu3 : tiI O y X ρ x (upI D l i) (l + 1) A (yw (yw v (X + 27) (l : Int).toNat (iI i)) (X + 30) (i : Int).toNat (iI (wsN ρ x D i l + rLW ρ l))) := by
                refine ⟨k1.t0 f3, k2, fun q z z1 z2 => ?_, fun b b1 b2 => ?_, fun z z1 z2 => ?_⟩
                · rw [yw_ne (by omega), yw_ne (by omega)]; exact k3 q z z1 z2
                · rw [yw_get, p3]
                  by_cases hb : b = i
                  · rw [if_pos ⟨rfl, by rw [hb]⟩, if_pos hb.symm, hb]
                  · rw [if_neg (by omega), yw_ne (by omega), if_neg (fun z => hb z.symm), Int.add_zero]
                    exact k4 b b1 b2
                · rw [yw_ne (by omega), yw_get]
                  by_cases hz : z = l
                  · rw [if_pos ⟨rfl, by rw [hz]⟩, hz, if_pos hn9, eD]
                  · rw [if_neg (by omega), k6 z z1 (by omega), upI_pre (by omega)]
              obtain ⟨u', e', s'⟩ := ih (l + 1) (by omega) n (by omega) (upI D l i) ((p2 hrg).mpr ⟨by omega, by omega⟩) ((p4 hfl).mpr c2) A hAb _ hu3
              rw [p1, show ((l + 1 : Nat) : Int) = (l : Int) + 1 by omega] at e'
              rw [show ((l + 1 : Nat) : Int) = (l : Int) + 1 by omega] at s'
              have emx : imax (iI (mxT x D l)) (iI ((i : Int) + 1)) = iI (if (i : Int) = mxT x D l then mxT x D l + 1 else mxT x D l) := by
                rw [imax_i (by omega) (by omega) (by omega) (by omega)]
                by_cases c : (i : Int) = mxT x D l
                · rw [if_pos c, if_neg (by omega), c]
                · rw [if_neg c, if_pos (by omega)]
              generalize TF 8 m (fun t => upT ρ x W (joinI ((l : Int) + 1) (upI D l i) t)) A = A2 at *
              obtain ⟨j1, j2, j3, j4, j6⟩ := s'
              have hv4 := h.fr j1 rfl
              have b30 : aI u' (X + 30) (iI i) = some (iI (wsN ρ x D i l + rLW ρ l)) := by
                rw [aI_n 8 (x_t30 hv4.1) (by omega) (by omega) (by omega), j4 i (by omega) (by omega), p3, if_pos rfl]
              have w3 : wA u' (X + 30) (iI i) (iI (wsN ρ x D i l)) = some (yw u' (X + 30) (i : Int).toNat (iI (wsN ρ x D i l))) := wA_n 8 (x_t30 hv4.1) (by omega) (by omega) (by omega)
              refine ⟨(iI ((i : Int) + 1), yw u' (X + 30) (i : Int).toNat (iI (wsN ρ x D i l))), ?_, rfl, j1.w (by rw [x_o30 h.1]; rfl), j2, fun q z z1 z2 => ?_, fun b b1 b2 => ?_, fun z z1 z2 => ?_⟩
              · rw [x_12 hv.1, obs, w1, obs, a30', obs, iI_add, w2, obs, x_c hv3.1, obs, emx, e', obs, b30, obs, iI_sub, show wsN ρ x D i l + rLW ρ l - rLW ρ l = wsN ρ x D i l by omega, w3, obs]
              · rw [yw_ne (by omega)]; exact j3 q z z1 z2
              · rw [yw_get]
                by_cases hb : b = i
                · rw [if_pos ⟨rfl, by rw [hb]⟩, hb]
                · rw [if_neg (by omega), j4 b b1 b2, p3, if_neg (fun z => hb z.symm), Int.add_zero]
              · rw [yw_ne (by omega), j6 z z1 (by omega), upI_pre (by omega)]
          · rintro ⟨k, v⟩ ⟨q1, q2⟩
            simp only at q1 q2
            subst q1
            refine ⟨v, ?_, ?_⟩
            · simp (disch := omega) only [fy_B_goTrips_b98, iI_lit, iI_add, iI_sub, iI_mul, iI_neg, obs, if_true, if_false, Int.reduceEq, Int.reduceLE, Int.reduceLT, Int.reduceAdd, Int.reduceSub, Int.reduceMul, Int.reduceNeg, Nat.reduceEqDiff, iI_le, iI_lt, iI_eq]
              rw [if_pos (by omega)]
            · rw [foldN_rest ((mxT x D l).toNat + 1) 8 (fun d b d1 d2 => ?_) (by omega)]
              · exact q2
              · have bad : ¬ (rgT x (upI D l d) (l + 1) = 1 ∧ flT ρ x W (upI D l d) (l + 1) = 1) := fun z => by
                  have := ((stepT (ρ := ρ) (W := W) (D := D) hn9 d).2.1 hrg).mp z.1
                  omega
                have := skipT_bad (m := m) (by omega) bad b
                rw [show ((l + 1 : Nat) : Int) = (l : Int) + 1 by omega] at this
                exact this
        obtain ⟨q, eq, hq⟩ := hloop
        exact ⟨q, by rw [show (0 : Int32) = iI 0 from rfl, eq, obs], hq⟩
    show ∃ u', fy_B_goTrips G (fy_B_goTrips_N G n) u X (iI W) (iI l) (iI (mxT x D l)) (X + 30) = some u' ∧ _
    unfold fy_B_goTrips
    rw [e16, obs]
    by_cases h6 : a.1 = 1000000
    · rw [if_pos h6, if_pos (by decide)]
      exact node
    · have hab : 0 ≤ a.1 ∧ a.1 ≤ 8 := by rcases ha with z | z <;> omega
      rw [if_neg h6, i0, if_neg (by rw [iI_lt (by omega) (by omega) (by omega) (by omega)]; omega), obs]
      by_cases hlt : mxT x D l < a.1
      · rw [if_pos (by rw [iI_lt (by omega) (by omega) (by omega) (by omega)]; exact hlt)]
        exact node
      · rw [if_neg (by rw [iI_lt (by omega) (by omega) (by omega) (by omega)]; exact hlt)]
        refine ⟨u, rfl, ?_⟩
        rw [skipT_many hlm (by omega)]
        exact hu0
end I1

/-! LAYER 3: a state's beginning, iterators, rows that fit: the component -/
set_option maxRecDepth 100000
def begX (ρ : Rv) (dz : Int) : Int → Int := fun z => if z < 4 then (if z < rB ρ then rBA ρ z else 0) else if z < 20 then 0 else if z < 27 then -1 else dz
section F3
variable {G : ai_G} {O : Nat → Nat} {y : yS} {ρ : Rv} {x : Int → Int} {X r : Nat} {bd ld : Nat → Nat}
theorem vlY.mono {n n' : Int} {a : Nat} (h : vlY y n a x) (hn : n' ≤ n) : vlY y n' a x := ⟨h.1, fun l l1 l2 => h.2.1 l l1 (by omega), h.2.2⟩
theorem c_begin {a lab : Nat} (hr : rivY G O y ρ r bd ld) (hw : wfR ρ) (hs : shY O y a lab) (hlab : lab = 3 ∨ lab = 4) : ∃ y' dz, fy_State_begin G y a r = some y' ∧ yF O [lab + 20, 100 + lab] 0 0 y y' ∧ vlY y' 7 a (begX ρ dz) ∧ (0 ≤ dz ∧ dz < 1000) ∧ gI 1 15 y r = some (iI dz) := by
  have hB := hw.2.2.1
  obtain ⟨dz, hdz, edz⟩ := r_dr hr
  have hlr : [lab + 20, 100 + lab].contains 1 = false ∧ [lab + 20, 100 + lab].contains 101 = false ∧ [lab + 20, 100 + lab].contains lab = false := by rcases hlab with rfl | rfl <;> exact ⟨rfl, rfl, rfl⟩
  have o : ∀ i, 1 ≤ i → i ≤ 6 → [lab + 20, 100 + lab].contains (O (a + i)) = true := fun i i1 i2 => by rw [hs.2.2.2.1 i i1 i2]; simp
  have o6 : [lab + 20, 100 + lab].contains (lbF O a 6) = true := by
    rw [lbF_ne hs.2.2.1 (by rcases hlab with rfl | rfl <;> decide)]
    simp
  have l1 : ∃ q, lp (fy_State_begin_b2 G a r) (iI 0, y) = some q ∧ (yF O [lab + 20, 100 + lab] 0 0 y q ∧ (∀ b, 0 ≤ b → b < 4 → ya q (a + 1) b.toNat = iI (if b < rB ρ then rBA ρ b else 0) ∧ ya q (a + 2) b.toNat = iI 0 ∧ ya q (a + 3) b.toNat = iI 0 ∧ ya q (a + 4) b.toNat = iI 0 ∧ ya q (a + 5) b.toNat = iI 0)) := by
    refine lp_inv (fun i q => q.1 = iI i ∧ yF O [lab + 20, 100 + lab] 0 0 y q.2 ∧ (∀ b, 0 ≤ b → b < (i : Int) → ya q.2 (a + 1) b.toNat = iI (if b < rB ρ then rBA ρ b else 0) ∧ ya q.2 (a + 2) b.toNat = iI 0 ∧ ya q.2 (a + 3) b.toNat = iI 0 ∧ ya q.2 (a + 4) b.toNat = iI 0 ∧ ya q.2 (a + 5) b.toNat = iI 0)) 4 ?_ ?_ ⟨rfl, yF.refl, fun b b1 b2 => by omega⟩
    · rintro i ⟨k, u⟩ hi ⟨g1, g2, g3⟩
      simp only at g1 g2 g3
      subst g1
      have hu := hr.fr g2 hlr.1 hlr.2.1
      have su := hs.fr g2 hlr.2.2
      left
      refine ⟨(iI ((i : Int) + 1), yw (yw (yw (yw (yw u (a + 1) (i : Int).toNat (iI (if (i : Int) < rB ρ then rBA ρ i else 0))) (a + 2) (i : Int).toNat (iI 0)) (a + 3) (i : Int).toNat (iI 0)) (a + 4) (i : Int).toNat (iI 0)) (a + 5) (i : Int).toNat (iI 0)), ?_, rfl, ((((g2.w (o 1 (by omega) (by omega))).w (o 2 (by omega) (by omega))).w (o 3 (by omega) (by omega))).w (o 4 (by omega) (by omega))).w (o 5 (by omega) (by omega)), fun b b1 b2 => ?_⟩
      · by_cases hc : (i : Int) < rB ρ
        · simp (disch := first | omega | (repeat first | exact rfl | refine Eq.trans ty_yw ?_ | refine Eq.trans ty_sF ?_)) only [fy_State_begin_b2, fy_State_begin_j41, iI_lit, iI_add, iI_sub, iI_mul, iI_neg, obs, if_true, if_false, Int.reduceEq, Int.reduceLE, Int.reduceLT, Int.reduceAdd, Int.reduceSub, Int.reduceMul, Int.reduceNeg, Nat.reduceEqDiff, iI_le, iI_lt, iI_eq, gR_yw, gI_yw, gN_yw, ck_yw, aL_yw, lget_yw, lsize_yw, s_0 su, r_0 hu, r_c0 hu, r_bs hu, r_b hu (show (0 : Int) ≤ i by omega) hc, r_bc hu (show (0 : Int) ≤ i by omega) hc, r_ba hu (show (0 : Int) ≤ i by omega) hc, s_w0 su, s_1 su, s_w1 su, s_2 su, s_w2 su, s_3 su, s_w3 su, s_4 su, s_w4 su]
          rw [if_neg (by omega), if_neg (by omega), if_pos hc]
        · simp (disch := first | omega | (repeat first | exact rfl | refine Eq.trans ty_yw ?_ | refine Eq.trans ty_sF ?_)) only [fy_State_begin_b2, fy_State_begin_j41, iI_lit, iI_add, iI_sub, iI_mul, iI_neg, obs, if_true, if_false, Int.reduceEq, Int.reduceLE, Int.reduceLT, Int.reduceAdd, Int.reduceSub, Int.reduceMul, Int.reduceNeg, Nat.reduceEqDiff, iI_le, iI_lt, iI_eq, gR_yw, gI_yw, gN_yw, ck_yw, aL_yw, lget_yw, lsize_yw, s_0 su, r_0 hu, r_c0 hu, r_bs hu, s_w0 su, s_1 su, s_w1 su, s_2 su, s_w2 su, s_3 su, s_w3 su, s_4 su, s_w4 su]
          rw [if_neg (by omega), if_pos (by omega), if_neg hc]
      · simp only [yw_get]
        by_cases hb : b = i
        · subst hb
          refine ⟨?_, ?_, ?_, ?_, ?_⟩
          · rw [if_neg (by omega), if_neg (by omega), if_neg (by omega), if_neg (by omega), if_pos ⟨trivial, rfl⟩]
          · rw [if_neg (by omega), if_neg (by omega), if_neg (by omega), if_pos ⟨trivial, rfl⟩]
          · rw [if_neg (by omega), if_neg (by omega), if_pos ⟨trivial, rfl⟩]
          · rw [if_neg (by omega), if_pos ⟨trivial, rfl⟩]
          · rw [if_pos ⟨trivial, rfl⟩]
        · obtain ⟨p0, p1, p2, p3, p4⟩ := g3 b b1 (by omega)
          refine ⟨?_, ?_, ?_, ?_, ?_⟩
          · rw [if_neg (by omega), if_neg (by omega), if_neg (by omega), if_neg (by omega), if_neg (by omega)]; exact p0
          · rw [if_neg (by omega), if_neg (by omega), if_neg (by omega), if_neg (by omega), if_neg (by omega)]; exact p1
          · rw [if_neg (by omega), if_neg (by omega), if_neg (by omega), if_neg (by omega), if_neg (by omega)]; exact p2
          · rw [if_neg (by omega), if_neg (by omega), if_neg (by omega), if_neg (by omega), if_neg (by omega)]; exact p3
          · rw [if_neg (by omega), if_neg (by omega), if_neg (by omega), if_neg (by omega), if_neg (by omega)]; exact p4
    · rintro ⟨k, u⟩ ⟨g1, g2, g3⟩
      simp only at g1 g2 g3
      subst g1
      refine ⟨u, ?_, g2, fun b b1 b2 => g3 b b1 (by omega)⟩
      simp (disch := omega) only [fy_State_begin_b2, iI_lit, iI_add, iI_sub, iI_mul, iI_neg, obs, if_true, if_false, Int.reduceEq, Int.reduceLE, Int.reduceLT, Int.reduceAdd, Int.reduceSub, Int.reduceMul, Int.reduceNeg, Nat.reduceEqDiff, iI_le, iI_lt, iI_eq]
      rw [if_pos (by omega)]
  obtain ⟨y1, e1, f1, a1⟩ := l1
  have l2 : ∃ q, lp (fy_State_begin_b78 G a r) (iI 0, y1) = some q ∧ (yF O [lab + 20, 100 + lab] 0 0 y q ∧ (∀ b, 0 ≤ b → b < 4 → ya q (a + 1) b.toNat = iI (if b < rB ρ then rBA ρ b else 0) ∧ ya q (a + 2) b.toNat = iI 0 ∧ ya q (a + 3) b.toNat = iI 0 ∧ ya q (a + 4) b.toNat = iI 0 ∧ ya q (a + 5) b.toNat = iI 0) ∧ ∀ l : Int, 0 ≤ l → l < 7 → ya q (a + 6) l.toNat = iI (-1)) := by
    refine lp_inv (fun i q => q.1 = iI i ∧ yF O [lab + 20, 100 + lab] 0 0 y q.2 ∧ (∀ b, 0 ≤ b → b < 4 → ya q.2 (a + 1) b.toNat = iI (if b < rB ρ then rBA ρ b else 0) ∧ ya q.2 (a + 2) b.toNat = iI 0 ∧ ya q.2 (a + 3) b.toNat = iI 0 ∧ ya q.2 (a + 4) b.toNat = iI 0 ∧ ya q.2 (a + 5) b.toNat = iI 0) ∧ ∀ l : Int, 0 ≤ l → l < (i : Int) → ya q.2 (a + 6) l.toNat = iI (-1)) 7 ?_ ?_ ⟨rfl, f1, a1, fun l l1 l2 => by omega⟩
    · rintro i ⟨k, u⟩ hi ⟨g1, g2, g3, g4⟩
      simp only at g1 g2 g3 g4
      subst g1
      have su := hs.fr g2 hlr.2.2
      left
      refine ⟨(iI ((i : Int) + 1), yw u (a + 6) (i : Int).toNat (iI (-1))), ?_, rfl, g2.w (o 6 (by omega) (by omega)), fun b b1 b2 => ?_, fun l l1 l2 => ?_⟩
      · simp (disch := first | omega | (repeat first | exact rfl | refine Eq.trans ty_yw ?_ | refine Eq.trans ty_sF ?_)) only [fy_State_begin_b78, iI_lit, iI_add, iI_sub, iI_mul, iI_neg, obs, if_true, if_false, Int.reduceEq, Int.reduceLE, Int.reduceLT, Int.reduceAdd, Int.reduceSub, Int.reduceMul, Int.reduceNeg, Nat.reduceEqDiff, iI_le, iI_lt, iI_eq, s_5 su, s_w5 su]
        rw [if_neg (by omega)]
      · rw [yw_ne (by omega), yw_ne (by omega), yw_ne (by omega), yw_ne (by omega), yw_ne (by omega)]
        exact g3 b b1 b2
      · rw [yw_get]
        split
        · rfl
        · exact g4 l l1 (by omega)
    · rintro ⟨k, u⟩ ⟨g1, g2, g3, g4⟩
      simp only at g1 g2 g3 g4
      subst g1
      refine ⟨u, ?_, g2, g3, fun l l1 l2 => g4 l l1 (by omega)⟩
      simp (disch := omega) only [fy_State_begin_b78, iI_lit, iI_add, iI_sub, iI_mul, iI_neg, obs, if_true, if_false, Int.reduceEq, Int.reduceLE, Int.reduceLT, Int.reduceAdd, Int.reduceSub, Int.reduceMul, Int.reduceNeg, Nat.reduceEqDiff, iI_le, iI_lt, iI_eq]
      rw [if_pos (by omega)]
  obtain ⟨y2, e2, f2, a2, a3⟩ := l2
  have e3 : gI 1 15 y2 r = some (iI dz) := by
    have hu := hr.fr f2 hlr.1 hlr.2.1
    unfold gI
    rw [if_pos hu.1.1, f2.int (by have := hr.1.2.2.1; omega) (by rw [lbF_ne hr.1.2.1 (by decide)]; exact hlr.2.1)]
    have := edz
    unfold gI at this
    rw [if_pos hr.1.1] at this
    exact this
  have su := hs.fr f2 hlr.2.2
  refine ⟨sF y2 a 6 (iI dz), dz, ?_, f2.sf o6, ⟨fun b b1 b2 => ?_, fun l l1 l2 => ?_, ?_⟩, hdz, edz⟩
  · unfold fy_State_begin
    rw [show ((0, y) : Int32 × yS) = (iI 0, y) from rfl, e1, obs, show ((0, y1) : Int32 × yS) = (iI 0, y1) from rfl, e2, obs, e3, obs, s_wsd su rfl]
    rfl
  · obtain ⟨p0, p1, p2, p3, p4⟩ := a2 b b1 b2
    unfold begX
    rw [if_pos b2, if_neg (show ¬ (4 + b < 4) by omega), if_neg (show ¬ (8 + b < 4) by omega), if_neg (show ¬ (12 + b < 4) by omega), if_neg (show ¬ (16 + b < 4) by omega), if_pos (show 4 + b < 20 by omega), if_pos (show 8 + b < 20 by omega), if_pos (show 12 + b < 20 by omega), if_pos (show 16 + b < 20 by omega)]
    exact ⟨p0, p1, p2, p3, p4⟩
  · unfold begX
    rw [if_neg (by omega), if_neg (by omega), if_pos (by omega)]
    exact a3 l l1 l2
  · rw [sF_get, if_pos ⟨rfl, rfl⟩]
    unfold begX
    rw [if_neg (by omega), if_neg (by omega), if_neg (by omega)]
theorem begX_wf (hw : wfR ρ) {dz : Int} (hd : 0 ≤ dz ∧ dz < 1000) : wfS ρ (begX ρ dz) := by
  have hC := hw.1
  have hr := hw.2.1
  have hb := hw.2.2.1
  have hl := hw.2.2.2.1
  refine ⟨fun b b1 b2 => ⟨?_, ?_, ?_, ?_⟩, fun l l1 l2 => ?_, ?_⟩
  · have h0 := (hw.2.2.2.2.2.2.2.2.2.1 b b1 b2).2.1
    unfold begX
    rw [if_pos (by omega), if_pos b2]
    exact h0
  · unfold begX; rw [if_neg (by omega), if_pos (by omega)]; omega
  · unfold begX; rw [if_neg (by omega), if_pos (by omega)]; omega
  · unfold begX; rw [if_neg (by omega), if_pos (by omega)]; omega
  · unfold begX; rw [if_neg (by omega), if_neg (by omega), if_pos (by omega)]; omega
  · unfold begX; rw [if_neg (by omega), if_neg (by omega), if_neg (by omega)]; exact hd
theorem begX_agr (hw : wfR ρ) (hB : 0 < rB ρ) (dz : Int) : agr ρ (begX ρ dz) (fx0 ρ) := by
  have hl := hw.2.2.2.1
  have z : ∀ k : Int, 4 ≤ k → k < 20 → begX ρ dz k = fx0 ρ k := fun k k1 k2 => by
    unfold begX fx0
    rw [if_neg (by omega), if_pos k2, if_neg (by omega), if_neg (by omega)]
  refine ⟨?_, z 4 (by omega) (by omega), z 8 (by omega) (by omega), z 12 (by omega) (by omega), z 16 (by omega) (by omega), fun l l1 l2 => ?_⟩
  · unfold begX fx0
    rw [if_pos (by omega), if_pos hB, if_pos rfl]
  · unfold begX fx0
    rw [if_neg (by omega), if_neg (by omega), if_pos (by omega), if_neg (by omega), if_pos (by omega)]
/-- iterators -/
def itY (u : yS) (p l : Nat) (i : Int) : Prop := yt u p = some (.inr 17) ∧ yr u p 3 = some l ∧ yf u p 0 = iI i ∧ yf u p 2 = yf u l 0
theorem c_iter {l lab : Nat} {n : Int} {els : Nat → Nat} (h : lsY G O y l lab n els) : ∃ y', fy_List_iterator G y l = some (yn y, y') ∧ yF O [] 1 4 y y' ∧ itY y' (yn y) l 0 := by
  have hl := h.1.2.2.1
  have hlt := h.1.1
  have t0 : yt (nO y 17) (yn y) = some (.inr 17) := by rw [nO_t, if_pos rfl]
  have tl : yt (nO y 17) l = some (.inr 16) := by rw [nO_t, if_neg (by omega)]; exact hlt
  have ef : yf (nO y 17) l = yf y l := by rw [nO_f, if_neg (by omega)]
  have f0 : yF O [] 1 4 y (nO y 17) := yF.refl.no (k := 17)
  have hne : ¬ l = yn y := by omega
  refine ⟨sF (sF (sR (nO y 17) (yn y) 3 (some l)) (yn y) 1 (iI (-1))) (yn y) 2 (yf y l 0), ?_, ((f0.srN (Nat.le_refl _)).sfN (Nat.le_refl _)).sfN (Nat.le_refl _), t0, ?_, ?_, ?_⟩
  · unfold fy_List_iterator mk
    rw [obs]
    simp only
    unfold fy_Itr_init
    rw [wR_ok t0, obs, wI_ok (show yt (sR (nO y 17) (yn y) 3 (some l)) (yn y) = some (.inr 17) from t0), obs]
    rw [gR_ok (show yt (sF (sR (nO y 17) (yn y) 3 (some l)) (yn y) 1 (-1)) (yn y) = some (.inr 17) from t0) (show yr (sF (sR (nO y 17) (yn y) 3 (some l)) (yn y) 1 (-1)) (yn y) 3 = some l by show yr (sR (nO y 17) (yn y) 3 (some l)) (yn y) 3 = _; rw [sR_get, if_pos ⟨rfl, rfl⟩]), obs]
    rw [gI_ok (show yt (sF (sR (nO y 17) (yn y) 3 (some l)) (yn y) 1 (-1)) l = some (.inr 16) from tl), obs, sF_get, if_neg (fun z => hne z.1)]
    rw [show yf (sR (nO y 17) (yn y) 3 (some l)) l 0 = yf y l 0 by show yf (nO y 17) l 0 = _; rw [ef]]
    rw [wI_ok (show yt (sF (sR (nO y 17) (yn y) 3 (some l)) (yn y) 1 (-1)) (yn y) = some (.inr 17) from t0), obs]
    rfl
  · show yr (sR (nO y 17) (yn y) 3 (some l)) (yn y) 3 = _
    rw [sR_get, if_pos ⟨rfl, rfl⟩]
  · rw [sF_get, if_neg (by omega), sF_get, if_neg (by omega)]
    show yf (nO y 17) (yn y) 0 = _
    rw [nO_f, if_pos rfl]
    rfl
  · rw [sF_get, if_pos ⟨rfl, rfl⟩, sF_get, if_neg (fun z => hne z.1), sF_get, if_neg (fun z => hne z.1)]
    show yf y l 0 = yf (nO y 17) l 0
    rw [ef]
theorem c_hasNext {l lab p : Nat} {n i : Int} {els : Nat → Nat} (h : lsY G O y l lab n els) (hi : itY y p l i) (h1 : 0 ≤ i) (h2 : i ≤ 1000) (h3 : n ≤ 1000) : fy_Itr_hasNext G y p = some (iI (if i = n then 0 else 1)) := by
  have h0 := h.2.1
  unfold fy_Itr_hasNext
  rw [gI_ok hi.1, obs, gR_ok hi.1 hi.2.1, obs, gI_ok h.1.1, obs, hi.2.2.1, h.1.2.2.2]
  simp (disch := omega) only [iI_eq]
  split <;> rfl
theorem c_next {l lab p : Nat} {n i : Int} {els : Nat → Nat} (h : lsY G O y l lab n els) (hi : itY y p l i) (hpl : ¬ p = l) (h1 : 0 ≤ i) (h2 : i < n) (h3 : n ≤ 1000) : fy_Itr_next G y p = some (els i.toNat, sF (sF y p 0 (iI (i + 1))) p 1 (iI i)) ∧ itY (sF (sF y p 0 (iI (i + 1))) p 1 (iI i)) p l (i + 1) := by
  obtain ⟨⟨a1, a2, a3, a4⟩, a5, q, b1, b2, b3, b4⟩ := h
  obtain ⟨i1, i2, i3, i4⟩ := hi
  rcases b4 with ⟨z1, -, -⟩ | ⟨cap, z1, z2, z3, z4⟩
  · omega
  refine ⟨?_, i1, i2, ?_, ?_⟩
  · have ec : fy_Itr_checkForComodification G y p = some () := by
      unfold fy_Itr_checkForComodification
      rw [gR_ok i1 i2, obs, gI_ok a1, obs, gI_ok i1, obs, if_pos i4.symm]
    have eL : aL G y q = some (iI cap) := by
      unfold aL
      rw [z1]
      simp only [iI_ofNat]
      rfl
    have eE : aE G (sF (sF y p 0 (iI (i + 1))) p 1 (iI i)) q (iI i) = some (els i.toNat) := by
      rw [aE_n (y := sF (sF y p 0 (iI (i + 1))) p 1 (iI i)) z1 (by omega) h1 (by omega) (by omega)]
      exact b3 _ (by omega)
    unfold fy_Itr_next
    rw [ck_ok i1, obs, ec, obs, gI_ok i1, obs, gR_ok i1 i2, obs, gI_ok a1, obs, i3, a4, if_pos (by rw [iI_lt (by omega) (by omega) (by omega) (by omega)]; exact h2), obs, gR_ok a1 b1, obs, eL, obs, if_pos (by rw [iI_lt (by omega) (by omega) (by omega) (by omega)]; omega), show (1 : Int32) = iI 1 from rfl, iI_add, wI_ok i1, obs, wI_ok (show yt (sF y p 0 (iI (i + 1))) p = some (.inr 17) from i1), obs, eE]
    rfl
  · rw [sF_get, if_neg (by omega), sF_get, if_pos ⟨rfl, rfl⟩]
  · have hlp : ∀ k j : Nat, ¬ (l = p ∧ k = j) := fun k j z => hpl z.1.symm
    rw [sF_get, if_neg (by omega), sF_get, if_neg (by omega), sF_get, if_neg (hlp _ _), sF_get, if_neg (hlp _ _)]
    exact i4
end F3

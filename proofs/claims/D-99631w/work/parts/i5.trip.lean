/-! LAYER 3: trips: the model's answer -/
set_option maxRecDepth 100000
def ldT (ρ : Rv) (a : Acc) (s : mS) : Prop := (a.1 = 1000000 ∧ s.1 61 = iI 0) ∨ (¬ a.1 = 1000000 ∧ s.1 61 = iI (rL ρ) ∧ ar s 26 (rL ρ) a.2)
/-- the last row that begins with D's first l -/
def endT (ρ : Rv) (x D : Int → Int) (l : Nat) (E : Int → Int) : Prop := d8 E ∧ (∀ i : Int, 0 ≤ i → i < l → E i = D i) ∧ (∀ j : Nat, l ≤ j → (j : Int) < rL ρ → x (20 + j) = -1 → E j = mxT x E j)
section I5
variable {ρ : Rv} {s0 s s1 : mS} {x D E : Int → Int} {W b : Int} {μ : Mu}
theorem ldT.fr {J : List Nat} {a : Acc} (h : ldT ρ a s) (f : fr [] J s s1) (hJ : J.contains 26 = false) : ldT ρ a s1 := by
  rcases h with ⟨h1, h2⟩ | ⟨h1, h2, h3⟩
  · exact Or.inl ⟨h1, by rw [f.s 61 rfl]; exact h2⟩
  · exact Or.inr ⟨h1, by rw [f.s 61 rfl]; exact h2, f.ar h3 hJ⟩
/-- one row -/
theorem row_step (hR : okR ρ s0) (hw : wfR ρ) (hb : 0 ≤ b ∧ b < rB ρ) (hD : d8 D) (hrg : rgT x D (rL ρ).toNat = 1) {a : Acc} (ha : accB 8 a) (f : fr [61] [23, 26, 27, 28, 29] s0 s) (hd : dgT ρ s D) (hl : ldT ρ a s) : ∃ s', fr [61] [23, 26, 27, 28, 29] s0 s' ∧ dgT ρ s' D ∧ bfT ρ x s' D ∧ ldT ρ (upT ρ x (rBW ρ b) D a) s' ∧ ∀ p, fm_nextTrips s' (iI (atS ρ x (-1))) = some p → fm_trips_b57 (iI b) (iI (atS ρ x (-1))) (iI a.1, iI 1, s) = some (.inl (iI (upT ρ x (rBW ρ b) D a).1, p.1, p.2)) := by
  have hL := hw.2.2.2.1
  have hB := hw.2.2.1
  have hab := atS_b hw x (-1)
  have hW := hw.2.2.2.2.2.2.2.2.2.1 b hb.1 hb.2
  have hm := mxT_b x D (rL ρ).toNat
  have hbb : 0 ≤ a.1 ∧ a.1 ≤ 1000000 := by rcases ha with z | z <;> omega
  obtain ⟨s1, e1, f1, b1⟩ := m_layBefore (x := x) (hR.fr f rfl rfl) hw hD hd
  have f01 : fr [61] [23, 26, 27, 28, 29] s0 s1 := f.trans (f1.mono rfl rfl)
  have d1 : dgT ρ s1 D := fun j hj => by rw [f1.a 27 rfl]; exact hd j hj
  have R1 := hR.fr f01 rfl rfl
  have h18 : s1.2.2.1 18 b.toNat = iI (rBW ρ b) := R1.2.2.2.2.2.2.2.2.1 b hb.1 hb.2
  have hbody : fm_trips_b57 (iI b) (iI (atS ρ x (-1))) (iI a.1, iI 1, s) = if a.1 ≤ mxT x D (rL ρ).toNat then (fm_nextTrips s1 (iI (atS ρ x (-1)))).bind (fun p148 => some (.inl (iI a.1, p148.1, p148.2))) else (fm_isFlat s1 (iI (atS ρ x (-1))) (iI (rBW ρ b))).bind (fun p83 => if p83.1 = 0 then (fm_nextTrips p83.2 (iI (atS ρ x (-1)))).bind (fun p148 => some (.inl (iI a.1, p148.1, p148.2))) else (lp (fm_trips_b95 (iI b) (iI (atS ρ x (-1))) (iI (mxT x D (rL ρ).toNat))) (0, p83.2)).bind fun q95 => (pI 61 q95 (q95.1 49)).bind fun s143 => (fm_nextTrips s143 (iI (atS ρ x (-1)))).bind fun p148 => some (.inl (iI (mxT x D (rL ρ).toNat), p148.1, p148.2))) := by
    unfold fm_trips_b57
    rw [if_neg (by show ¬ iI 1 = 0; decide)]
    simp only
    rw [e1, obs]
    simp only
    by_cases c : a.1 ≤ mxT x D (rL ρ).toNat
    · rw [if_pos c, if_pos (by rw [iI_le (by omega) (by omega) (by omega) (by omega)]; exact c)]
    · rw [if_neg c, if_neg (by rw [iI_le (by omega) (by omega) (by omega) (by omega)]; exact c), ld_i (by omega) (by omega) (by omega), obs, h18]
  by_cases c1 : a.1 ≤ mxT x D (rL ρ).toNat
  · have hup : upT ρ x (rBW ρ b) D a = a := if_neg (fun z => by omega)
    rw [hup]
    refine ⟨s1, f01, d1, b1, hl.fr f1 rfl, fun p hp => ?_⟩
    rw [hbody, if_pos c1, hp, obs]
  rw [if_neg c1] at hbody
  obtain ⟨s2, e2, f2⟩ := m_isFlat (x := x) (W := rBW ρ b) R1 hw hD d1 (by omega) (by omega)
  have f02 : fr [61] [23, 26, 27, 28, 29] s0 s2 := f01.trans (f2.mono rfl rfl)
  have d2 : dgT ρ s2 D := fun j hj => by rw [f2.a 27 rfl]; exact d1 j hj
  have b2 : bfT ρ x s2 D := fun j hj => by rw [f2.a 28 rfl]; exact b1 j hj
  rw [e2, obs] at hbody
  simp only at hbody
  rcases flT_01 (ρ := ρ) (x := x) (W := rBW ρ b) (D := D) (rL ρ).toNat with hf | hf
  · have hup : upT ρ x (rBW ρ b) D a = a := if_neg (fun z => by omega)
    rw [hup]
    refine ⟨s2, f02, d2, b2, (hl.fr f1 rfl).fr f2 rfl, fun p hp => ?_⟩
    rw [hbody, hf, if_pos (by rfl), hp, obs]
  have hup : upT ρ x (rBW ρ b) D a = (mxT x D (rL ρ).toNat, rwT ρ x D) := if_pos ⟨⟨hrg, hf⟩, by omega⟩
  have l1 : ∃ q, lp (fm_trips_b95 (iI b) (iI (atS ρ x (-1))) (iI (mxT x D (rL ρ).toNat))) (iI 0, s2) = some q ∧ (fr [] [26] s2 q ∧ ar q 26 (rL ρ) (rwT ρ x D)) := by
    refine lp_inv (fun i q => q.1 = iI i ∧ fr [] [26] s2 q.2 ∧ ar q.2 26 i (rwT ρ x D)) (rL ρ).toNat ?_ ?_ ⟨rfl, fr.refl, fun z z1 z2 => by omega⟩
    · rintro i ⟨j, u⟩ hi ⟨g1, g2, g3⟩
      simp only at g1 g2 g3
      subst g1
      have e49 : u.1 49 = iI (rL ρ) := by rw [g2.s 49 rfl]; exact (hR.fr f02 rfl rfl).2.2.2.1
      have h27 : u.2.2.1 27 (i : Int).toNat = iI (D i) := by rw [Int.toNat_natCast, g2.a 27 rfl]; exact d2 i (by omega)
      have hnb := near_bit hw x (-1) (k := i) (by omega)
      have er : rwT ρ x D i = if x (20 + i) = -1 then D i else -1 := by
        unfold rwT
        by_cases c : x (20 + (i : Int)) = -1
        · rw [if_pos c, if_pos ⟨by omega, by omega, c⟩]
        · rw [if_neg c, if_neg (fun z => c z.2.2)]
      left
      refine ⟨(iI ((i : Int) + 1), aw u 26 (i : Int).toNat (iI (rwT ρ x D i))), ?_, rfl, g2.aw rfl, fun z z1 z2 => ?_⟩
      · simp (disch := omega) only [fm_trips_b95, e49, iI_lit, iI_add, iI_sub, iI_mul, iI_neg, obs, if_true, if_false, Int.reduceEq, Int.reduceLE, Int.reduceLT, Int.reduceAdd, Int.reduceSub, Int.reduceMul, Int.reduceNeg, Nat.reduceEqDiff, iI_le, iI_lt, iI_eq, bit_i, hnb, sto_w, ld_i, h27, er]
        rw [if_neg (by omega)]
        by_cases c : x (20 + (i : Int)) = -1
        · simp only [if_pos c, if_true]
        · simp only [if_neg c, show ¬ iI 0 = iI 1 by decide, if_false]
          try rw [if_neg (by decide)]
      · rw [aw_get]
        by_cases hz : z = i
        · rw [if_pos ⟨rfl, by rw [hz]⟩, hz]
        · rw [if_neg (by omega)]
          exact g3 z z1 (by omega)
    · rintro ⟨j, u⟩ ⟨g1, g2, g3⟩
      simp only at g1 g2 g3
      subst g1
      have e49 : u.1 49 = iI (rL ρ) := by rw [g2.s 49 rfl]; exact (hR.fr f02 rfl rfl).2.2.2.1
      refine ⟨u, ?_, g2, fun z z1 z2 => g3 z z1 (by omega)⟩
      simp (disch := omega) only [fm_trips_b95, e49, iI_lit, iI_add, iI_sub, iI_mul, iI_neg, obs, if_true, if_false, Int.reduceEq, Int.reduceLE, Int.reduceLT, Int.reduceAdd, Int.reduceSub, Int.reduceMul, Int.reduceNeg, Nat.reduceEqDiff, iI_le, iI_lt, iI_eq]
      rw [if_pos (by omega)]
  obtain ⟨q, eq, q1, q2⟩ := l1
  have e49 : q.1 49 = iI (rL ρ) := by rw [q1.s 49 rfl]; exact (hR.fr f02 rfl rfl).2.2.2.1
  rw [hup]
  refine ⟨mSi q 61 (iI (rL ρ)), (f02.trans (q1.mono rfl rfl)).si rfl, fun j hj => ?_, fun j hj => ?_, Or.inr ⟨?_, rfl, q2⟩, fun p hp => ?_⟩
  · show q.2.2.1 27 j = _
    rw [q1.a 27 rfl]; exact d2 j hj
  · show q.2.2.1 28 j = _
    rw [q1.a 28 rfl]; exact b2 j hj
  · show ¬ mxT x D (rL ρ).toNat = 1000000
    omega
  · rw [hbody, hf, if_neg (by decide), show (0 : Int32) = iI 0 from rfl, eq, obs, e49]
    simp only [pI, obs]
    rw [hp, obs]
theorem rows_from (hR : okR ρ s0) (hw : wfR ρ) (hb : 0 ≤ b ∧ b < rB ρ) : ∀ (m l : Nat), l + m = (rL ρ).toNat → ∀ (D : Int → Int), d8 D → rgT x D l = 1 → ∀ (a : Acc), accB 8 a → ∀ s, fr [61] [23, 26, 27, 28, 29] s0 s → dgT ρ s (joinI l D (fun _ => 0)) → ldT ρ a s → ∃ E s', endT ρ x D l E ∧ fr [61] [23, 26, 27, 28, 29] s0 s' ∧ dgT ρ s' E ∧ bfT ρ x s' E ∧ ldT ρ (TF 8 m (fun t => upT ρ x (rBW ρ b) (joinI l D t)) a) s' ∧ ∀ p, fm_nextTrips s' (iI (atS ρ x (-1))) = some p → lp (fm_trips_b57 (iI b) (iI (atS ρ x (-1)))) (iI a.1, iI 1, s) = lp (fm_trips_b57 (iI b) (iI (atS ρ x (-1)))) (iI (TF 8 m (fun t => upT ρ x (rBW ρ b) (joinI l D t)) a).1, p.1, p.2) := by
  have hL := hw.2.2.2.1
  intro m
  induction m with
  | zero =>
    intro l hlm D hD hrg a ha s f hd hl
    have hJ : d8 (joinI l D (fun _ => 0)) := by
      intro i
      unfold joinI
      split
      · exact hD i
      · exact (by decide : (0 : Int) ≤ 0 ∧ (0 : Int) < 8)
    have e := joinT (ρ := ρ) (x := x) (D := D) (W := rBW ρ b) l (fun _ => 0)
    have hrg' : rgT x (joinI l D (fun _ => 0)) (rL ρ).toNat = 1 := by
      rw [show (rL ρ).toNat = l by omega, e.2.1]; exact hrg
    obtain ⟨s', g1, g2, g3, g4, g5⟩ := row_step hR hw hb hJ hrg' ha f hd hl
    exact ⟨joinI l D (fun _ => 0), s', ⟨hJ, fun i i1 i2 => if_pos i2, fun j j1 j2 => by omega⟩, g1, g2, g3, g4, fun p hp => lp_back (g5 p hp)⟩
  | succ m ih =>
    intro l hlm D hD hrg a ha s f hd hl
    have hmb := mxT_b x D l
    have d8up : ∀ d : Int, 0 ≤ d → d < 8 → d8 (upI D l d) := fun d d1 d2 i => by
      unfold upI
      split
      · exact ⟨d1, d2⟩
      · exact hD i
    have hll : (l : Int) < rL ρ := by omega
    have hd0 : dgT ρ s (joinI ((l + 1 : Nat) : Int) (upI D l 0) (fun _ => 0)) := by
      intro j hj
      rw [hd j hj]
      congr 1
      unfold joinI upI
      by_cases c : (j : Int) < l
      · rw [if_pos c, if_pos (by omega), if_neg (by omega)]
      · rw [if_neg c]
        by_cases c2 : (j : Int) = l
        · rw [if_pos (by omega), if_pos c2]
        · rw [if_neg (by omega)]
    rw [TF_join]
    by_cases hn : x (20 + l) = -1
    rotate_left
    · have p2 := (stepT0 (ρ := ρ) (W := rBW ρ b) (D := D) hn 0).2.1 hrg
      obtain ⟨E, s', g1, g2, g3, g4, g5, g6⟩ := ih (l + 1) (by omega) (upI D l 0) (d8up 0 (by omega) (by omega)) (p2.mpr rfl) a ha s f hd0 hl
      have hrest : foldN (fun d => TF 8 m (fun t => upT ρ x (rBW ρ b) (joinI ((l : Int) + 1) (upI D l d) t))) 8 a = TF 8 m (fun t => upT ρ x (rBW ρ b) (joinI ((l : Int) + 1) (upI D l 0) t)) a := by
        rw [foldN_rest 1 8 (fun d c9 d1 d2 => ?_) (by omega)]
        · rfl
        · have bad : ¬ (rgT x (upI D l d) (l + 1) = 1 ∧ flT ρ x (rBW ρ b) (upI D l d) (l + 1) = 1) := fun z => by
            have := ((stepT0 (ρ := ρ) (W := rBW ρ b) (D := D) hn d).2.1 hrg).mp z.1
            omega
          have := skipT_bad (m := m) (by omega) bad c9
          rw [show ((l + 1 : Nat) : Int) = (l : Int) + 1 by omega] at this
          exact this
      rw [show ((l + 1 : Nat) : Int) = (l : Int) + 1 by omega] at g5 g6
      rw [hrest]
      refine ⟨E, s', ⟨g1.1, fun i i1 i2 => ?_, fun j j1 j2 j3 => ?_⟩, g2, g3, g4, g5, g6⟩
      · rw [g1.2.1 i i1 (by omega), upI_pre i2]
      · by_cases c : j = l
        · subst c; exact absurd j3 hn
        · exact g1.2.2 j (by omega) j2 j3
    · have key : ∀ i : Nat, (i : Int) ≤ mxT x D l → ∃ E s', endT ρ x (upI D l i) (l + 1) E ∧ fr [61] [23, 26, 27, 28, 29] s0 s' ∧ dgT ρ s' E ∧ bfT ρ x s' E ∧ ldT ρ (foldN (fun d => TF 8 m (fun t => upT ρ x (rBW ρ b) (joinI ((l : Int) + 1) (upI D l d) t))) (i + 1) a) s' ∧ ∀ p, fm_nextTrips s' (iI (atS ρ x (-1))) = some p → lp (fm_trips_b57 (iI b) (iI (atS ρ x (-1)))) (iI a.1, iI 1, s) = lp (fm_trips_b57 (iI b) (iI (atS ρ x (-1)))) (iI (foldN (fun d => TF 8 m (fun t => upT ρ x (rBW ρ b) (joinI ((l : Int) + 1) (upI D l d) t))) (i + 1) a).1, p.1, p.2) := by
        intro i
        induction i with
        | zero =>
          intro hi
          have p2 := (stepT (ρ := ρ) (W := rBW ρ b) (D := D) hn 0).2.1 hrg
          have := ih (l + 1) (by omega) (upI D l 0) (d8up 0 (by omega) (by omega)) (p2.mpr ⟨by omega, hi⟩) a ha s f hd0 hl
          rw [show ((l + 1 : Nat) : Int) = (l : Int) + 1 by omega] at this
          exact this
        | succ i ihi =>
          intro hi
          obtain ⟨E, s', g1, g2, g3, g4, g5, g6⟩ := ihi (by omega)
          have hAb : accB 8 (foldN (fun d => TF 8 m (fun t => upT ρ x (rBW ρ b) (joinI ((l : Int) + 1) (upI D l d) t))) (i + 1) a) := foldN_inv _ ha (fun k b hb => accT_TF hw m _ _ hb)
          have eD : upI D l (i : Int) l = i := if_pos rfl
          have hEl : E l = i := by rw [g1.2.1 l (by omega) (by omega), eD]
          have hEm : mxT x E l = mxT x D l := (okT_ext (ρ := ρ) (x := x) (W := 0) l (fun z z1 z2 => by rw [g1.2.1 z z1 (by omega), upI_pre z2])).1
          obtain ⟨s2, e2, f2, dd2⟩ := m_nextAt (hR.fr g2 rfl rfl) hw g1.1 g3 g4 hll hn (by omega) (fun j j1 j2 j3 => g1.2.2 j (by omega) j2 j3)
          have p2 := (stepT (ρ := ρ) (W := rBW ρ b) (D := D) hn ((i + 1 : Nat) : Int)).2.1 hrg
          have dd : dgT ρ s2 (joinI ((l + 1 : Nat) : Int) (upI D l ((i + 1 : Nat) : Int)) (fun _ => 0)) := by
            intro j hj
            rw [dd2 j hj]
            congr 1
            unfold joinI
            by_cases c : (j : Int) < l + 1
            · rw [if_pos c, if_pos (by omega)]
              unfold upI
              by_cases c2 : (j : Int) = l
              · rw [if_pos c2, if_pos c2, hEl]; omega
              · rw [if_neg c2, if_neg c2, g1.2.1 j (by omega) (by omega), upI_pre (by omega)]
            · rw [if_neg c, if_neg (by omega)]
          have := ih (l + 1) (by omega) (upI D l ((i + 1 : Nat) : Int)) (d8up _ (by omega) (by omega)) (p2.mpr ⟨by omega, hi⟩) _ hAb s2 (g2.trans (f2.mono rfl rfl)) dd (g5.fr f2 rfl)
          rw [show ((l + 1 : Nat) : Int) = (l : Int) + 1 by omega] at this
          obtain ⟨E', s3, k1, k2, k3, k4, k5, k6⟩ := this
          exact ⟨E', s3, k1, k2, k3, k4, k5, fun p hp => by rw [g6 _ e2]; exact k6 p hp⟩
      obtain ⟨E, s', g1, g2, g3, g4, g5, g6⟩ := key (mxT x D l).toNat (by omega)
      have hrest : foldN (fun d => TF 8 m (fun t => upT ρ x (rBW ρ b) (joinI ((l : Int) + 1) (upI D l d) t))) 8 a = foldN (fun d => TF 8 m (fun t => upT ρ x (rBW ρ b) (joinI ((l : Int) + 1) (upI D l d) t))) ((mxT x D l).toNat + 1) a := by
        rw [foldN_rest ((mxT x D l).toNat + 1) 8 (fun d c9 d1 d2 => ?_) (by omega)]
        have bad : ¬ (rgT x (upI D l d) (l + 1) = 1 ∧ flT ρ x (rBW ρ b) (upI D l d) (l + 1) = 1) := fun z => by
          have := ((stepT (ρ := ρ) (W := rBW ρ b) (D := D) hn d).2.1 hrg).mp z.1
          omega
        have := skipT_bad (m := m) (by omega) bad c9
        rw [show ((l + 1 : Nat) : Int) = (l : Int) + 1 by omega] at this
        exact this
      rw [hrest]
      refine ⟨E, s', ⟨g1.1, fun i i1 i2 => ?_, fun j j1 j2 j3 => ?_⟩, g2, g3, g4, g5, g6⟩
      · rw [g1.2.1 i i1 (by omega), upI_pre i2]
      · by_cases c : j = l
        · subst c
          rw [g1.2.1 j (by omega) (by omega), show upI D j ((mxT x D j).toNat : Int) j = ((mxT x D j).toNat : Int) from if_pos rfl, (okT_ext (ρ := ρ) (x := x) (W := 0) (D := E) (D' := D) j (fun z z1 z2 => by rw [g1.2.1 z z1 (by omega), upI_pre z2])).1]
          omega
        · exact g1.2.2 j (by omega) j2 j3
end I5

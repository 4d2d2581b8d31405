/-! LAYER 3: trips: the model's parts -/
set_option maxRecDepth 100000
def d8 (E : Int → Int) : Prop := ∀ i, 0 ≤ E i ∧ E i < 8
def dgT (ρ : Rv) (s : mS) (E : Int → Int) : Prop := ∀ j : Nat, (j : Int) < rL ρ → s.2.2.1 27 j = iI (E j)
def bfT (ρ : Rv) (x : Int → Int) (s : mS) (E : Int → Int) : Prop := ∀ j : Nat, (j : Int) < rL ρ → s.2.2.1 28 j = iI (mxT x E j)
section I3
variable {ρ : Rv} {s : mS} {x E : Int → Int} {W : Int}
theorem m_layBefore (hR : okR ρ s) (hw : wfR ρ) (hE : d8 E) (hd : dgT ρ s E) : ∃ s', fm_layBefore s (iI (atS ρ x (-1))) = some (iI (mxT x E (rL ρ).toNat), s') ∧ fr [] [28] s s' ∧ bfT ρ x s' E := by
  have hl := hw.2.2.2.1
  have hab := atS_b hw x (-1)
  have : ∃ q, lp (fm_layBefore_b4 (iI (atS ρ x (-1)))) (iI 0, iI 0, s) = some q ∧ (q.1 = iI (mxT x E (rL ρ).toNat) ∧ fr [] [28] s q.2 ∧ bfT ρ x q.2 E) := by
    refine lp_inv (fun i q => q.1 = iI (mxT x E i) ∧ q.2.1 = iI i ∧ fr [] [28] s q.2.2 ∧ ∀ j : Nat, j < i → q.2.2.2.2.1 28 j = iI (mxT x E j)) (rL ρ).toNat ?_ ?_ ⟨rfl, rfl, fr.refl, fun j hj => by omega⟩
    · rintro i ⟨m, j, u⟩ hi ⟨g1, g2, g3, g4⟩
      simp only at g1 g2 g3 g4
      subst g1 g2
      have hRu := hR.fr g3 rfl rfl
      have e49 : u.1 49 = iI (rL ρ) := hRu.2.2.2.1
      have hmb := mxT_b x E i
      have hEi := hE i
      have hnb := near_bit hw x (-1) (k := i) (by omega)
      have h27 : (aw u 28 (i : Int).toNat (iI (mxT x E i))).2.2.1 27 (i : Int).toNat = iI (E i) := by
        rw [aw_get, if_neg (by omega), Int.toNat_natCast, g3.a 27 rfl]
        exact hd i (by omega)
      left
      refine ⟨(iI (mxT x E (i + 1)), iI ((i : Int) + 1), aw u 28 (i : Int).toNat (iI (mxT x E i))), ?_, rfl, rfl, g3.aw rfl, fun j hj => ?_⟩
      · unfold fm_layBefore_b4
        simp (disch := omega) only [e49, iI_le, iI_lt, iI_eq]
        rw [if_neg (by omega), sto_w (by omega) (by omega) (by omega), obs, i1, show (31 : Int32) = iI 31 from rfl, bit_i (by omega) (by omega) hab.1 (by omega), hnb]
        by_cases hn : x (20 + i) = -1
        · rw [if_pos hn, if_pos rfl, ld_i (by omega) (by omega) (by omega), obs, h27]
          simp (disch := omega) only [iI_le, iI_lt, iI_eq, iI_lit, iI_add, iI_sub, iI_mul, iI_neg, obs, if_true, if_false, Int.reduceEq, Int.reduceLE, Int.reduceLT, Int.reduceAdd, Int.reduceSub, Int.reduceMul, Int.reduceNeg, Nat.reduceEqDiff, mxT]
          by_cases c : E i = mxT x E i
          · rw [if_pos c, if_pos ⟨hn, c⟩]
          · rw [if_neg c, if_neg (fun z => c z.2)]
        · rw [if_neg hn, if_neg (by decide)]
          simp (disch := omega) only [iI_lit, iI_add, iI_sub, iI_mul, iI_neg, obs, if_true, if_false, Int.reduceEq, Int.reduceLE, Int.reduceLT, Int.reduceAdd, Int.reduceSub, Int.reduceMul, Int.reduceNeg, Nat.reduceEqDiff, mxT]
          rw [if_neg (fun z => hn z.1)]
      · rw [aw_get, Int.toNat_natCast]
        by_cases hz : j = i
        · rw [if_pos ⟨rfl, hz⟩, hz]
        · rw [if_neg (by omega)]
          exact g4 j (by omega)
    · rintro ⟨m, j, u⟩ ⟨g1, g2, g3, g4⟩
      simp only at g1 g2 g3 g4
      subst g1 g2
      have e49 : u.1 49 = iI (rL ρ) := (hR.fr g3 rfl rfl).2.2.2.1
      refine ⟨(iI (mxT x E (rL ρ).toNat), u), ?_, rfl, g3, fun j hj => g4 j (by omega)⟩
      unfold fm_layBefore_b4
      simp (disch := omega) only [e49, iI_le, iI_lt, iI_eq]
      rw [if_pos (by omega)]
  obtain ⟨q, eq, q1, q2, q3⟩ := this
  refine ⟨q.2, ?_, q2, q3⟩
  unfold fm_layBefore
  rw [show (0 : Int32) = iI 0 from rfl, eq, obs, q1]
theorem m_isFlat (hR : okR ρ s) (hw : wfR ρ) (hE : d8 E) (hd : dgT ρ s E) (hW1 : 0 ≤ W) (hW2 : W ≤ 1000) : ∃ s', fm_isFlat s (iI (atS ρ x (-1))) (iI W) = some (iI (flT ρ x W E (rL ρ).toNat), s') ∧ fr [] [29] s s' := by
  have hl := hw.2.2.2.1
  have hab := atS_b hw x (-1)
  have l1 : ∃ q, lp (fm_isFlat_b2 (iI (atS ρ x (-1))) (iI W)) (iI 0, s) = some q ∧ (fr [] [29] s q ∧ ∀ j : Nat, j < 8 → q.2.2.1 29 j = iI 0) := by
    refine lp_inv (fun i q => q.1 = iI i ∧ fr [] [29] s q.2 ∧ ∀ j : Nat, j < i → q.2.2.2.1 29 j = iI 0) 8 ?_ ?_ ⟨rfl, fr.refl, fun j hj => by omega⟩
    · rintro i ⟨j, u⟩ hi ⟨g1, g2, g3⟩
      simp only at g1 g2 g3
      subst g1
      left
      refine ⟨(iI ((i : Int) + 1), aw u 29 (i : Int).toNat (iI 0)), ?_, rfl, g2.aw rfl, fun j hj => ?_⟩
      · simp (disch := omega) only [fm_isFlat_b2, iI_lit, iI_add, iI_sub, iI_mul, iI_neg, obs, if_true, if_false, Int.reduceEq, Int.reduceLE, Int.reduceLT, Int.reduceAdd, Int.reduceSub, Int.reduceMul, Int.reduceNeg, Nat.reduceEqDiff, iI_le, iI_lt, iI_eq, sto_w]
        rw [if_neg (by omega)]
      · rw [aw_get, Int.toNat_natCast]
        by_cases hz : j = i
        · rw [if_pos ⟨rfl, hz⟩]
        · rw [if_neg (by omega)]
          exact g3 j (by omega)
    · rintro ⟨j, u⟩ ⟨g1, g2, g3⟩
      simp only at g1 g2 g3
      subst g1
      refine ⟨u, ?_, g2, g3⟩
      simp (disch := omega) only [fm_isFlat_b2, iI_lit, iI_add, iI_sub, iI_mul, iI_neg, obs, if_true, if_false, Int.reduceEq, Int.reduceLE, Int.reduceLT, Int.reduceAdd, Int.reduceSub, Int.reduceMul, Int.reduceNeg, Nat.reduceEqDiff, iI_le, iI_lt, iI_eq]
      rw [if_pos (by omega)]
  obtain ⟨s1, e1, f1, a1⟩ := l1
  have l2 : ∃ q, lp (fm_isFlat_b26 (iI (atS ρ x (-1))) (iI W)) (iI 1, iI 0, s1) = some q ∧ (q.1 = iI (flT ρ x W E (rL ρ).toNat) ∧ fr [] [29] s q.2) := by
    refine lp_inv (fun i q => q.1 = iI (flT ρ x W E i) ∧ q.2.1 = iI i ∧ fr [] [29] s q.2.2 ∧ ∀ j : Nat, j < 8 → q.2.2.2.2.1 29 j = iI (wsN ρ x E j i)) (rL ρ).toNat ?_ ?_ ⟨rfl, rfl, f1, a1⟩
    · rintro i ⟨m, j, u⟩ hi ⟨g1, g2, g3, g4⟩
      simp only at g1 g2 g3 g4
      subst g1 g2
      have hRu := hR.fr g3 rfl rfl
      have e49 : u.1 49 = iI (rL ρ) := hRu.2.2.2.1
      have hf := flT_01 (ρ := ρ) (x := x) (W := W) (D := E) i
      have hEi := hE i
      have hnb := near_bit hw x (-1) (k := i) (by omega)
      have hlw := hw.2.2.2.2.2.2.2.2.2.2.1 (i : Int) (by omega) (by omega)
      have hwb := wsN_b (x := x) (D := E) hw (E i) i (by omega)
      have h27 : u.2.2.1 27 (i : Int).toNat = iI (E i) := by rw [Int.toNat_natCast, g3.a 27 rfl]; exact hd i (by omega)
      have h29 : u.2.2.1 29 (E i).toNat = iI (wsN ρ x E (E i) i) := by
        have := g4 (E i).toNat (by omega)
        rw [show (((E i).toNat : Nat) : Int) = E i by omega] at this
        exact this
      have h21 : u.2.2.1 21 (i : Int).toNat = iI (rLW ρ i) := hRu.2.2.2.2.2.2.2.2.2.2.2.1 i (by omega) (by omega)
      left
      unfold fm_isFlat_b26
      simp (disch := omega) only [e49, iI_le, iI_lt, iI_eq]
      rw [if_neg (by omega), i1, show (31 : Int32) = iI 31 from rfl, bit_i (by omega) (by omega) hab.1 (by omega), hnb]
      by_cases hn : x (20 + i) = -1
      rotate_left
      · rw [if_neg hn, show (0 : Int32) = iI 0 from rfl, if_pos rfl, iI_add]
        refine ⟨_, rfl, ?_, rfl, g3, fun j hj => ?_⟩
        · simp only [flT]
          rcases hf with z | z
          · rw [z, if_neg (fun q => absurd q.1 (by decide))]
          · rw [z, if_pos ⟨rfl, fun q => absurd q hn⟩]
        · simp only [wsN]
          rw [if_neg (fun z => hn z.1), Int.add_zero]
          exact g4 j hj
      · have wE : wsN ρ x E (E i) (i + 1) = wsN ρ x E (E i) i + rLW ρ i := by
          simp only [wsN]
          rw [if_pos ⟨hn, trivial⟩]
        have k27 : (aw u 29 (E i).toNat (iI (wsN ρ x E (E i) i + rLW ρ i))).2.2.1 27 (i : Int).toNat = iI (E i) := by rw [aw_get, if_neg (by omega)]; exact h27
        have k29 : (aw u 29 (E i).toNat (iI (wsN ρ x E (E i) i + rLW ρ i))).2.2.1 29 (E i).toNat = iI (wsN ρ x E (E i) i + rLW ρ i) := by rw [aw_get, if_pos ⟨rfl, rfl⟩]
        have a29 : ∀ j : Nat, j < 8 → (aw u 29 (E i).toNat (iI (wsN ρ x E (E i) i + rLW ρ i))).2.2.1 29 j = iI (wsN ρ x E j (i + 1)) := by
          intro j hj
          rw [aw_get]
          simp only [wsN]
          by_cases hz : j = (E i).toNat
          · rw [if_pos ⟨trivial, hz⟩, if_pos ⟨hn, by omega⟩, show ((j : Nat) : Int) = E i by omega]
          · rw [if_neg (fun z => hz z.2), if_neg (fun z => hz (by omega)), Int.add_zero]
            exact g4 j hj
        rw [if_pos hn, if_neg (by decide), ld_i (by omega) (by omega) (by omega), obs, h27, ld_i (by omega) (by omega) (by omega), obs, h29, ld_i (by omega) (by omega) (by omega), obs, h21, iI_add, sto_w (by omega) (by omega) (by omega), obs]
        rcases hf with z | z
        · rw [z, show (0 : Int32) = iI 0 from rfl, if_pos rfl, iI_add]
          refine ⟨_, rfl, ?_, rfl, g3.aw rfl, a29⟩
          simp only [flT]
          rw [z, if_neg (fun q => absurd q.1 (by decide))]
        · rw [z, show (0 : Int32) = iI 0 from rfl, if_neg (by decide), ld_i (by omega) (by omega) (by omega), obs, k27, ld_i (by omega) (by omega) (by omega), obs, k29]
          simp (disch := omega) only [iI_le, iI_lt, iI_eq]
          by_cases c : W < wsN ρ x E (E i) i + rLW ρ i
          · rw [if_pos c, iI_add]
            refine ⟨_, rfl, ?_, rfl, g3.aw rfl, a29⟩
            show _ = iI (if flT ρ x W E i = 1 ∧ (x (20 + (i : Int)) = -1 → wsN ρ x E (E i) (i + 1) ≤ W) then 1 else 0)
            rw [if_neg (fun q => by have := q.2 hn; omega)]
          · rw [if_neg c, iI_add]
            refine ⟨_, rfl, ?_, rfl, g3.aw rfl, a29⟩
            show _ = iI (if flT ρ x W E i = 1 ∧ (x (20 + (i : Int)) = -1 → wsN ρ x E (E i) (i + 1) ≤ W) then 1 else 0)
            rw [if_pos ⟨z, fun _ => by omega⟩]
    · rintro ⟨m, j, u⟩ ⟨g1, g2, g3, g4⟩
      simp only at g1 g2 g3 g4
      subst g1 g2
      have e49 : u.1 49 = iI (rL ρ) := (hR.fr g3 rfl rfl).2.2.2.1
      refine ⟨(iI (flT ρ x W E (rL ρ).toNat), u), ?_, rfl, g3⟩
      unfold fm_isFlat_b26
      simp (disch := omega) only [e49, iI_le, iI_lt, iI_eq]
      rw [if_pos (by omega)]
  obtain ⟨q, eq, q1, q2⟩ := l2
  have hf := flT_01 (ρ := ρ) (x := x) (W := W) (D := E) (rL ρ).toNat
  refine ⟨q.2, ?_, q2⟩
  unfold fm_isFlat
  rw [show (0 : Int32) = iI 0 from rfl, e1, obs, i1, eq, obs, q1, if_pos]
  rcases hf with z | z
  · exact Or.inl (by rw [z])
  · exact Or.inr (by rw [z])
end I3

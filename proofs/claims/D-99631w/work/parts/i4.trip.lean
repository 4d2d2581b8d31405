/-! LAYER 3: trips: the model's next row -/
set_option maxRecDepth 100000
section I4
variable {ρ : Rv} {s : mS} {x E : Int → Int} {W : Int}
theorem next_step (hw : wfR ρ) (hE : d8 E) (hd : dgT ρ s E) (hb : bfT ρ x s E) {j : Nat} (hj : (j : Int) < rL ρ) : fm_nextTrips_b7 s (iI (atS ρ x (-1))) (iI j) = if x (20 + j) = -1 ∧ ¬ E j = mxT x E j then some (.inr (iI j)) else some (.inl (iI ((j : Int) - 1))) := by
  have hl := hw.2.2.2.1
  have hab := atS_b hw x (-1)
  have hmb := mxT_b x E j
  have hEj := hE j
  have hnb := near_bit hw x (-1) (k := j) hj
  have h27 : s.2.2.1 27 (j : Int).toNat = iI (E j) := by rw [Int.toNat_natCast]; exact hd j hj
  have h28 : s.2.2.1 28 (j : Int).toNat = iI (mxT x E j) := by rw [Int.toNat_natCast]; exact hb j hj
  have e1 : iI (j : Int) + -iI 1 = iI ((j : Int) - 1) := by rw [iI_neg, iI_add]; rfl
  unfold fm_nextTrips_b7
  simp (disch := omega) only [iI_lit, iI_le, iI_lt, iI_eq, bit_i]
  rw [if_neg (by omega), hnb]
  by_cases hn : x (20 + j) = -1
  · rw [if_pos hn, if_neg (by decide), ld_i (by omega) (by omega) (by omega), obs, h27, ld_i (by omega) (by omega) (by omega), obs, h28]
    simp (disch := omega) only [iI_le, iI_lt, iI_eq]
    by_cases c : E j = mxT x E j
    · rw [if_pos c, if_neg (fun z => z.2 c), e1]
    · rw [if_neg c, if_pos ⟨hn, c⟩]
  · rw [if_neg hn, if_pos rfl, if_neg (fun z => hn z.1), e1]
theorem m_nextEnd (hR : okR ρ s) (hw : wfR ρ) (hE : d8 E) (hd : dgT ρ s E) (hb : bfT ρ x s E) (hm : ∀ j : Nat, (j : Int) < rL ρ → x (20 + j) = -1 → E j = mxT x E j) : fm_nextTrips s (iI (atS ρ x (-1))) = some (iI 0, s) := by
  have hl := hw.2.2.2.1
  have e49 : s.1 49 = iI (rL ρ) := hR.2.2.2.1
  have : lp (fm_nextTrips_b7 s (iI (atS ρ x (-1)))) (iI (rL ρ - 1 - ((0 : Nat) : Int))) = some (iI (-1)) := by
    refine lp_seq (fun i => iI (rL ρ - 1 - i)) (rL ρ).toNat (fun i hi => ?_) ?_
    · obtain ⟨j, hj⟩ : ∃ j : Nat, (j : Int) = rL ρ - 1 - i := ⟨(rL ρ - 1 - i).toNat, by omega⟩
      rw [← hj, next_step hw hE hd hb (by omega), if_neg (fun z => z.2 (hm j (by omega) z.1))]
      rw [show (j : Int) - 1 = rL ρ - 1 - ((i + 1 : Nat) : Int) by omega]
    · show fm_nextTrips_b7 s _ (iI (rL ρ - 1 - ((rL ρ).toNat : Int))) = _
      rw [show rL ρ - 1 - ((rL ρ).toNat : Int) = -1 by omega]
      unfold fm_nextTrips_b7
      rw [if_pos (by decide)]
  rw [show rL ρ - 1 - ((0 : Nat) : Int) = rL ρ - 1 by omega] at this
  unfold fm_nextTrips fm_nextTrips_j40
  rw [e49, i1, iI_sub, this, obs, if_neg (by decide)]
  rfl
theorem m_nextAt (hR : okR ρ s) (hw : wfR ρ) (hE : d8 E) (hd : dgT ρ s E) (hb : bfT ρ x s E) {l : Nat} (hl1 : (l : Int) < rL ρ) (hn : x (20 + l) = -1) (hc : E l < mxT x E l) (hm : ∀ j : Nat, l < j → (j : Int) < rL ρ → x (20 + j) = -1 → E j = mxT x E j) : ∃ s', fm_nextTrips s (iI (atS ρ x (-1))) = some (iI 1, s') ∧ fr [] [27, 28] s s' ∧ dgT ρ s' (joinI (l + 1) (upI E l (E l + 1)) (fun _ => 0)) := by
  have hl := hw.2.2.2.1
  have hEl := hE l
  have hmb := mxT_b x E l
  have e49 : s.1 49 = iI (rL ρ) := hR.2.2.2.1
  have : lp (fm_nextTrips_b7 s (iI (atS ρ x (-1)))) (iI (rL ρ - 1 - ((0 : Nat) : Int))) = some (iI l) := by
    refine lp_seq (fun i => iI (rL ρ - 1 - i)) ((rL ρ).toNat - 1 - l) (fun i hi => ?_) ?_
    · obtain ⟨j, hj⟩ : ∃ j : Nat, (j : Int) = rL ρ - 1 - i := ⟨(rL ρ - 1 - i).toNat, by omega⟩
      rw [← hj, next_step hw hE hd hb (by omega), if_neg (fun z => z.2 (hm j (by omega) (by omega) z.1))]
      rw [show (j : Int) - 1 = rL ρ - 1 - ((i + 1 : Nat) : Int) by omega]
    · show fm_nextTrips_b7 s _ (iI (rL ρ - 1 - (((rL ρ).toNat - 1 - l : Nat) : Int))) = _
      rw [show rL ρ - 1 - (((rL ρ).toNat - 1 - l : Nat) : Int) = l by omega, next_step hw hE hd hb hl1, if_pos ⟨hn, by omega⟩]
  rw [show rL ρ - 1 - ((0 : Nat) : Int) = rL ρ - 1 by omega] at this
  have h27 : s.2.2.1 27 (l : Int).toNat = iI (E l) := by rw [Int.toNat_natCast]; exact hd l hl1
  have f1 : fr [] [27, 28] s (aw s 27 (l : Int).toNat (iI (E l + 1))) := fr.refl.aw rfl
  have l1 : ∃ q, lp (fm_nextTrips_b60 (iI (atS ρ x (-1)))) (iI ((l : Int) + 1 + ((0 : Nat) : Int)), aw s 27 (l : Int).toNat (iI (E l + 1))) = some q ∧ (fr [] [27, 28] s q ∧ dgT ρ q (joinI (l + 1) (upI E l (E l + 1)) (fun _ => 0))) := by
    refine lp_inv (fun i q => q.1 = iI ((l : Int) + 1 + i) ∧ fr [] [27, 28] s q.2 ∧ ∀ j : Nat, (j : Int) < l + 1 + i → (j : Int) < rL ρ → q.2.2.2.1 27 j = iI (joinI (l + 1) (upI E l (E l + 1)) (fun _ => 0) j)) ((rL ρ).toNat - 1 - l) ?_ ?_ ⟨rfl, f1, fun j j1 j2 => ?_⟩
    · rintro i ⟨j, u⟩ hi ⟨g1, g2, g3⟩
      simp only at g1 g2 g3
      subst g1
      have e49 : u.1 49 = iI (rL ρ) := (hR.fr g2 rfl rfl).2.2.2.1
      left
      refine ⟨(iI ((l : Int) + 1 + i + 1), aw u 27 ((l : Int) + 1 + i).toNat (iI 0)), ?_, by show iI ((l : Int) + 1 + i + 1) = iI ((l : Int) + 1 + ((i + 1 : Nat) : Int)); congr 1, g2.aw rfl, fun j j1 j2 => ?_⟩
      · simp (disch := omega) only [fm_nextTrips_b60, e49, iI_lit, iI_add, iI_sub, iI_mul, iI_neg, obs, if_true, if_false, Int.reduceEq, Int.reduceLE, Int.reduceLT, Int.reduceAdd, Int.reduceSub, Int.reduceMul, Int.reduceNeg, Nat.reduceEqDiff, iI_le, iI_lt, iI_eq, sto_w]
        rw [if_neg (by omega)]
      · rw [aw_get]
        by_cases hz : (j : Int) = l + 1 + i
        · rw [if_pos ⟨rfl, by omega⟩]
          unfold joinI
          rw [if_neg (by omega)]
        · rw [if_neg (by omega)]
          exact g3 j (by omega) j2
    · rintro ⟨j, u⟩ ⟨g1, g2, g3⟩
      simp only at g1 g2 g3
      subst g1
      have e49 : u.1 49 = iI (rL ρ) := (hR.fr g2 rfl rfl).2.2.2.1
      refine ⟨u, ?_, g2, fun j hj => g3 j (by omega) hj⟩
      simp (disch := omega) only [fm_nextTrips_b60, e49, iI_lit, iI_add, iI_sub, iI_mul, iI_neg, obs, if_true, if_false, Int.reduceEq, Int.reduceLE, Int.reduceLT, Int.reduceAdd, Int.reduceSub, Int.reduceMul, Int.reduceNeg, Nat.reduceEqDiff, iI_le, iI_lt, iI_eq]
      rw [if_pos (by omega)]
    · show (aw s 27 (l : Int).toNat (iI (E l + 1))).2.2.1 27 j = _
      have ej : joinI (l + 1) (upI E l (E l + 1)) (fun _ => 0) (j : Int) = upI E l (E l + 1) j := if_pos (by omega)
      rw [aw_get, Int.toNat_natCast, ej]
      by_cases hz : j = l
      · rw [if_pos ⟨rfl, hz⟩, hz, show upI E l (E l + 1) l = E l + 1 from if_pos rfl]
      · rw [if_neg (by omega), upI_pre (by omega)]
        exact hd j j2
  obtain ⟨q, eq, q1, q2⟩ := l1
  have hE' : d8 (joinI (l + 1) (upI E l (E l + 1)) (fun _ => 0)) := by
    intro i
    unfold joinI upI
    split
    · split
      · omega
      · exact hE i
    · exact (by decide : (0 : Int) ≤ 0 ∧ (0 : Int) < 8)
  obtain ⟨s2, e2, f2, -⟩ := m_layBefore (x := x) (hR.fr q1 rfl rfl) hw hE' q2
  refine ⟨s2, ?_, q1.trans (f2.mono rfl rfl), fun j hj => by rw [f2.a 27 rfl]; exact q2 j hj⟩
  unfold fm_nextTrips fm_nextTrips_j40
  rw [show (l : Int) + 1 + ((0 : Nat) : Int) = (l : Int) + 1 by omega] at eq
  rw [e49, i1, iI_sub, this, obs, show (0 : Int32) = iI 0 from rfl, if_pos (by rw [iI_le (by omega) (by omega) (by omega) (by omega)]; omega), ld_i (by omega) (by omega) (by omega), obs, h27, iI_add, sto_w (by omega) (by omega) (by omega), obs, iI_add, eq, obs, e2, obs]
end I4

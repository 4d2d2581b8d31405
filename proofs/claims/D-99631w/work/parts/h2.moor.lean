/-! LAYER 3: mooring: the model's answer -/
set_option maxRecDepth 100000
def mooA (μ : Mu) : AcM := TF 9 (rB (uR μ)).toNat (upM (uR μ) (uX μ)) (-1, 0, uA μ 26)
def mooV (μ : Mu) (k : Int) : Int := if 0 ≤ k ∧ k ≤ 1 then (if k = 0 then (mooA μ).1 else (mooA μ).2.1) else -1
def uMoo (μ : Mu) (k : Int) : Mu := if 0 ≤ k ∧ k ≤ 1 then uLay μ (rB (uR μ)) (mooA μ).2.2 else μ
def accM (a : AcM) : Prop := (a.1 = -1 ∧ a.2.1 = 0) ∨ (0 ≤ a.1 ∧ a.1 ≤ 4 ∧ 0 ≤ a.2.1 ∧ a.2.1 ≤ 64)
section H2
variable {ρ : Rv} {s : mS} {x D : Int → Int} {μ : Mu}
theorem mooS_b (hw : wfR ρ) (hx : wfS ρ x) (b : Int) (h1 : 0 ≤ b) (h2 : b < rB ρ) : 0 ≤ mooS ρ x b ∧ mooS ρ x b < 256 := by
  unfold mooS
  by_cases h : x (4 + b) = 0
  · rw [if_pos h]
    have hC := hw.1
    have : ∀ k, 0 ≤ landN ρ x b k ∧ landN ρ x b k < 256 := by
      intro k
      induction k with
      | zero => exact (by decide : (0 : Int) ≤ 0 ∧ (0 : Int) < 256)
      | succ k ih =>
        have hr := (rowE_wf (v := k) hw hx h1 h2).1.1 b h1 h2
        simp only [landN]
        split
        · exact ih
        · exact (orb_i (S := landN ρ x b k) (by omega) (by omega) ih.1 ih.2).2
    exact this _
  · rw [if_neg h]; omega
theorem upM_b (hw : wfR ρ) (hx : wfS ρ x) (hD : d9 D) {a : AcM} (h : accM a) : accM (upM ρ x D a) := by
  have hB := hw.2.2.1
  have h1 := mnM_b D (rB ρ).toNat
  have h2 := btM_b hw hx hD (rB ρ).toNat (by omega)
  unfold upM
  by_cases hc : okM ρ x D (rB ρ).toNat = 1 ∧ (a.1 < mnM D (rB ρ).toNat ∨ (mnM D (rB ρ).toNat = a.1 ∧ btM x D (rB ρ).toNat < a.2.1))
  · rw [if_pos hc]
    refine Or.inr ?_
    simp only
    omega
  · rw [if_neg hc]
    exact h
theorem all8 : ∀ n : Fin 5, ∀ i : Fin 4, i.val < n.val → ((9 : Int) ^ n.val - 1) / 9 ^ (n.val - 1 - i.val) % 9 = 8 := by decide
theorem moo_end (hw : wfR ρ) (a : AcM) (h : accM a) : 0 ≤ (upM ρ x (dgB 9 (rB ρ).toNat ((9 : Int) ^ (rB ρ).toNat - 1)) a).1 := by
  have hB := hw.2.2.1
  have hok : okM ρ x (dgB 9 (rB ρ).toNat ((9 : Int) ^ (rB ρ).toNat - 1)) (rB ρ).toNat = 1 := by
    refine (okM_iff (dgB_d9 _ _) _).mpr (fun i hi => Or.inl ?_)
    have := all8 ⟨(rB ρ).toNat, by omega⟩ ⟨i, by omega⟩ hi
    unfold dgB
    rw [Int.toNat_natCast]
    exact this
  have hle := upM_le (ρ := ρ) (x := x) (dgB 9 (rB ρ).toNat ((9 : Int) ^ (rB ρ).toNat - 1)) a
  have hm := mnM_b (dgB 9 (rB ρ).toNat ((9 : Int) ^ (rB ρ).toNat - 1)) (rB ρ).toNat
  rcases h with ⟨h1, -⟩ | h1
  · unfold upM
    rw [if_pos ⟨hok, Or.inl (by omega)⟩]
    exact hm.1
  · omega
theorem M_mooring (h : MR μ s) (hw : wfM μ) {k : Int} (k1 : -2147483648 ≤ k) (k2 : k < 2147483648) : (∃ s', fm_mooring s (iI k) = some (iI (mooV μ k), s') ∧ MR (uMoo μ k) s') ∧ (0 ≤ (mooA μ).1 ∧ (mooA μ).1 ≤ 4 ∧ 0 ≤ (mooA μ).2.1 ∧ (mooA μ).2.1 ≤ 64) := by
  have hB := hw.1.2.2.1
  have hr := hw.1.2.1
  have hC := hw.1.1
  have hx := hw.2.1
  have hMb := mooS_b hw.1 hx
  generalize hA : (fun i : Nat => foldN (fun v => upM (uR μ) (uX μ) (dgB 9 (rB (uR μ)).toNat v)) i (-1, 0, uA μ 26)) = A at *
  have hA0 : A 0 = (-1, 0, uA μ 26) := by rw [← hA]; rfl
  have hAs : ∀ i, A (i + 1) = upM (uR μ) (uX μ) (dgB 9 (rB (uR μ)).toNat i) (A i) := fun i => by rw [← hA]; rfl
  have hAb : ∀ i, accM (A i) := by
    intro i
    induction i with
    | zero => rw [hA0]; exact Or.inl ⟨rfl, rfl⟩
    | succ i ih => rw [hAs]; exact upM_b hw.1 hx (dgB_d9 _ _) ih
  have hfin : A (9 ^ (rB (uR μ)).toNat) = mooA μ := by
    rw [← hA]
    exact TF_num (by omega) _ _ _ (upM_ext hw.1 _)
  have h47 : (9 : Nat) ^ (rB (uR μ)).toNat ≤ 9 ^ 4 := Nat.pow_le_pow_right (by omega) (by omega)
  have h47b : (9 : Nat) ^ 4 = 6561 := by decide
  have h47c : (0 : Nat) < 9 ^ (rB (uR μ)).toNat := Nat.pow_pos (by omega)
  have hpos : 0 ≤ (mooA μ).1 := by
    obtain ⟨m, hm⟩ : ∃ m, 9 ^ (rB (uR μ)).toNat = m + 1 := ⟨9 ^ (rB (uR μ)).toNat - 1, by omega⟩
    rw [← hfin, hm, hAs m]
    have := moo_end (x := uX μ) hw.1 (A m) (hAb m)
    have e : ((m : Nat) : Int) = (9 : Int) ^ (rB (uR μ)).toNat - 1 := by
      have : ((9 ^ (rB (uR μ)).toNat : Nat) : Int) = ((m + 1 : Nat) : Int) := by rw [hm]
      simp at this
      omega
    rw [e]
    exact this
  have hbb : 0 ≤ (mooA μ).1 ∧ (mooA μ).1 ≤ 4 ∧ 0 ≤ (mooA μ).2.1 ∧ (mooA μ).2.1 ≤ 64 := by
    have := hAb (9 ^ (rB (uR μ)).toNat)
    rw [hfin] at this
    rcases this with z | z
    · omega
    · exact z
  refine ⟨?_, hbb⟩
  unfold mooV uMoo
  by_cases hk : 0 ≤ k ∧ k ≤ 1
  rotate_left
  · refine ⟨s, ?_, by rw [if_neg hk]; exact h⟩
    unfold fm_mooring
    simp (disch := omega) only [iI_lit, iI_add, iI_sub, iI_mul, iI_neg, obs, if_true, if_false, Int.reduceEq, Int.reduceLE, Int.reduceLT, Int.reduceAdd, Int.reduceSub, Int.reduceMul, Int.reduceNeg, Nat.reduceEqDiff, m_isIn, if_neg hk]
  rw [if_pos hk, if_pos hk]
  have ep : fm_power (iI 9) (iI (rB (uR μ))) = some (iI ((9 ^ (rB (uR μ)).toNat : Nat) : Int)) := by
    rw [m_power (by omega) (by omega)]
    simp
  have l0 : ∃ q, lp (fm_mooring_b13 (iI k)) (iI 0, s) = some q ∧ (fr [61] [8, 9, 23, 25, 32, 33, 26] s q ∧ ∀ j : Nat, (j : Int) < rB (uR μ) → q.2.2.1 32 j = iI (mooS (uR μ) (uX μ) j)) := by
    refine lp_inv (fun i q => q.1 = iI i ∧ fr [61] [8, 9, 23, 25, 32, 33, 26] s q.2 ∧ ∀ j : Nat, j < i → q.2.2.2.1 32 j = iI (mooS (uR μ) (uX μ) j)) (rB (uR μ)).toNat ?_ ?_ ⟨rfl, fr.refl, fun j hj => by omega⟩
    · rintro i ⟨j, u⟩ hi ⟨g1, g2, g3⟩
      simp only at g1 g2 g3
      subst g1
      have hRu := h.1.fr g2 rfl rfl
      have hau := g2.ar h.2.1 rfl
      have e48 : u.1 48 = iI (rB (uR μ)) := hRu.2.2.1
      have h22 : u.2.2.1 22 (4 + (i : Int)).toNat = iI (uX μ (4 + i)) := hau (4 + i) (by omega) (by omega)
      have hxi := hx.1 i (by omega) (by omega)
      left
      by_cases h0 : uX μ (4 + i) = 0
      · obtain ⟨u2, e2, f2⟩ := m_landingsOf hRu hw.1 hau hx (b := i) (by omega) (by omega)
        have em : mooS (uR μ) (uX μ) i = landS (uR μ) (uX μ) i := if_pos h0
        refine ⟨(iI ((i : Int) + 1), aw u2 32 (i : Int).toNat (iI (mooS (uR μ) (uX μ) i))), ?_, rfl, (g2.trans (f2.mono rfl rfl)).aw rfl, fun j hj => ?_⟩
        · simp (disch := omega) only [fm_mooring_b13, e48, iI_lit, iI_add, iI_sub, iI_mul, iI_neg, obs, if_true, if_false, Int.reduceEq, Int.reduceLE, Int.reduceLT, Int.reduceAdd, Int.reduceSub, Int.reduceMul, Int.reduceNeg, Nat.reduceEqDiff, iI_le, iI_lt, iI_eq, ld_i, sto_i, h22, h0, e2, sto_w, em]
          rw [if_neg (by omega)]
          rfl
        · rw [aw_get, Int.toNat_natCast]
          by_cases hz : j = i
          · rw [if_pos ⟨rfl, hz⟩, hz]
          · rw [if_neg (by omega), f2.a 32 rfl]
            exact g3 j (by omega)
      · have em : mooS (uR μ) (uX μ) i = 0 := if_neg h0
        refine ⟨(iI ((i : Int) + 1), aw u 32 (i : Int).toNat (iI (mooS (uR μ) (uX μ) i))), ?_, rfl, g2.aw rfl, fun j hj => ?_⟩
        · simp (disch := omega) only [fm_mooring_b13, e48, iI_lit, iI_add, iI_sub, iI_mul, iI_neg, obs, if_true, if_false, Int.reduceEq, Int.reduceLE, Int.reduceLT, Int.reduceAdd, Int.reduceSub, Int.reduceMul, Int.reduceNeg, Nat.reduceEqDiff, iI_le, iI_lt, iI_eq, ld_i, sto_i, h22, if_neg h0, sto_w, em]
          rw [if_neg (by omega)]
          rfl
        · rw [aw_get, Int.toNat_natCast]
          by_cases hz : j = i
          · rw [if_pos ⟨rfl, hz⟩, hz]
          · rw [if_neg (by omega)]
            exact g3 j (by omega)
    · rintro ⟨j, u⟩ ⟨g1, g2, g3⟩
      simp only at g1 g2 g3
      subst g1
      have e48 : u.1 48 = iI (rB (uR μ)) := (h.1.fr g2 rfl rfl).2.2.1
      refine ⟨u, ?_, g2, fun j hj => g3 j (by omega)⟩
      simp (disch := omega) only [fm_mooring_b13, e48, iI_lit, iI_add, iI_sub, iI_mul, iI_neg, obs, if_true, if_false, Int.reduceEq, Int.reduceLE, Int.reduceLT, Int.reduceAdd, Int.reduceSub, Int.reduceMul, Int.reduceNeg, Nat.reduceEqDiff, iI_le, iI_lt, iI_eq]
      rw [if_pos (by omega)]
  obtain ⟨s1, e1, f1, a1⟩ := l0
  have l1 : ∃ q, lp (fm_mooring_b60 (iI k)) (iI (-1), iI 0, iI 0, s1) = some q ∧ (q.1 = iI (mooA μ).1 ∧ q.2.1 = iI (mooA μ).2.1 ∧ MR (uLay μ (rB (uR μ)) (mooA μ).2.2) q.2.2) := by
    refine lp_inv (fun i q => q.1 = iI (A i).1 ∧ q.2.1 = iI (A i).2.1 ∧ q.2.2.1 = iI i ∧ fr [61] [8, 9, 23, 25, 32, 33, 26] s q.2.2.2 ∧ (∀ j : Nat, (j : Int) < rB (uR μ) → q.2.2.2.2.2.1 32 j = iI (mooS (uR μ) (uX μ) j)) ∧ (0 ≤ (A i).1 → q.2.2.2.1 61 = iI (rB (uR μ)) ∧ ar q.2.2.2 26 (rB (uR μ)) (A i).2.2)) (9 ^ (rB (uR μ)).toNat) ?_ ?_ ⟨by rw [hA0], by rw [hA0], rfl, f1, a1, fun z => by rw [hA0] at z; exact absurd z (by decide : ¬ (0 : Int) ≤ -1)⟩
    · rintro i ⟨n, b, j, u⟩ hi ⟨g1, g2, g3, g4, g5, g6⟩
      simp only at g1 g2 g3 g4 g5 g6
      subst g1 g2 g3
      have hRu := h.1.fr g4 rfl rfl
      have hau := g4.ar h.2.1 rfl
      have hb := hAb i
      have hbb2 : -1 ≤ (A i).1 ∧ (A i).1 ≤ 4 ∧ 0 ≤ (A i).2.1 ∧ (A i).2.1 ≤ 64 := by rcases hb with z | z <;> omega
      obtain ⟨u2, e2, f2, a2⟩ := m_layMooring hRu hw.1 hx g5 hMb (v := i) (by omega) (by omega)
      have e48 : u.1 48 = iI (rB (uR μ)) := hRu.2.2.1
      have f02 : fr [61] [8, 9, 23, 25, 32, 33, 26] s u2 := g4.trans (f2.mono rfl rfl)
      have hD := dgB_d9 (rB (uR μ)).toNat i
      have hAi := hAs i
      have hmb := mnM_b (dgB 9 (rB (uR μ)).toNat i) (rB (uR μ)).toNat
      have hbt := btM_b hw.1 hx hD (rB (uR μ)).toNat (by omega)
      generalize hDD : dgB 9 (rB (uR μ)).toNat (i : Int) = D at *
      have hRu2 := h.1.fr f02 rfl rfl
      have hau2 := f02.ar h.2.1 rfl
      have e482 : u2.1 48 = iI (rB (uR μ)) := hRu2.2.2.1
      have a32' : ∀ j : Nat, (j : Int) < rB (uR μ) → u2.2.2.1 32 j = iI (mooS (uR μ) (uX μ) j) := fun j hj => by rw [f2.a 32 rfl]; exact g5 j hj
      have keep : 0 ≤ (A i).1 → u2.1 61 = iI (rB (uR μ)) ∧ ar u2 26 (rB (uR μ)) (A i).2.2 := fun z => ⟨by rw [f2.s 61 rfl]; exact (g6 z).1, f2.ar (g6 z).2 rfl⟩
      left
      unfold fm_mooring_b60
      rw [show (9 : Int32) = iI 9 from rfl, e48, ep, obs]
      simp (disch := omega) only [iI_le, iI_lt, iI_eq, iI_lit, iI_add, iI_sub, iI_mul, iI_neg, obs, if_true, if_false, Int.reduceEq, Int.reduceLE, Int.reduceLT, Int.reduceAdd, Int.reduceSub, Int.reduceMul, Int.reduceNeg, Nat.reduceEqDiff]
      rw [if_neg (by omega), e2, obs]
      simp only
      by_cases hk1 : okM (uR μ) (uX μ) D (rB (uR μ)).toNat = 1
      · have ebt := m_betweenAll hRu2 hw.1 hau2 hx hD (a2 hk1)
        have take : (A (i + 1) = (mnM D (rB (uR μ)).toNat, btM (uX μ) D (rB (uR μ)).toNat, fun k => if 0 ≤ k ∧ k < rB (uR μ) then rwM D k else 0)) → ∃ q', fm_mooring_j110 u2 (iI k) (iI i) (iI (mnM D (rB (uR μ)).toNat)) = some (Sum.inl q') ∧ (q'.1 = iI (A (i + 1)).1 ∧ q'.2.1 = iI (A (i + 1)).2.1 ∧ q'.2.2.1 = iI ((i + 1 : Nat) : Int) ∧ fr [61] [8, 9, 23, 25, 32, 33, 26] s q'.2.2.2 ∧ (∀ j : Nat, (j : Int) < rB (uR μ) → q'.2.2.2.2.2.1 32 j = iI (mooS (uR μ) (uX μ) j)) ∧ (0 ≤ (A (i + 1)).1 → q'.2.2.2.1 61 = iI (rB (uR μ)) ∧ ar q'.2.2.2 26 (rB (uR μ)) (A (i + 1)).2.2)) := by
          intro hE
          have l2 : ∃ q, lp (fm_mooring_b121 (iI k) (iI (mnM D (rB (uR μ)).toNat)) (iI (btM (uX μ) D (rB (uR μ)).toNat)) (iI i)) (iI 0, u2) = some q ∧ (fr [61] [8, 9, 23, 25, 32, 33, 26] s q ∧ fr [] [26] u2 q ∧ ar q 26 (rB (uR μ)) (rwM D)) := by
            refine lp_inv (fun m q => q.1 = iI m ∧ fr [61] [8, 9, 23, 25, 32, 33, 26] s q.2 ∧ fr [] [26] u2 q.2 ∧ ar q.2 26 m (rwM D)) (rB (uR μ)).toNat ?_ ?_ ⟨rfl, f02, fr.refl, fun z z1 z2 => by omega⟩
            · rintro m ⟨j, w⟩ hm9 ⟨p1, p2, p3, p4⟩
              simp only at p1 p2 p3 p4
              subst p1
              have e48 : w.1 48 = iI (rB (uR μ)) := by rw [p2.s 48 rfl]; exact h.1.2.2.1
              have hd := hD m
              have h33 : w.2.2.1 33 (m : Int).toNat = iI (D m) := by rw [Int.toNat_natCast, p3.a 33 rfl]; exact a2 hk1 m (by omega)
              left
              refine ⟨(iI ((m : Int) + 1), aw w 26 (m : Int).toNat (iI (rwM D m))), ?_, rfl, p2.aw rfl, p3.aw rfl, fun z z1 z2 => ?_⟩
              · simp (disch := omega) only [fm_mooring_b121, e48, iI_lit, iI_add, iI_sub, iI_mul, iI_neg, obs, if_true, if_false, Int.reduceEq, Int.reduceLE, Int.reduceLT, Int.reduceAdd, Int.reduceSub, Int.reduceMul, Int.reduceNeg, Nat.reduceEqDiff, iI_le, iI_lt, iI_eq, ld_i, sto_i, h33, sto_w, rwM]
                rw [if_neg (by omega)]
                by_cases h8 : D m = 8
                · simp only [if_pos h8]; rfl
                · simp only [if_neg h8]; rfl
              · rw [aw_get]
                by_cases hz : z = m
                · rw [if_pos ⟨rfl, by rw [hz]⟩, hz]
                · rw [if_neg (by omega)]
                  exact p4 z z1 (by omega)
            · rintro ⟨j, w⟩ ⟨p1, p2, p3, p4⟩
              simp only at p1 p2 p3 p4
              subst p1
              have e48 : w.1 48 = iI (rB (uR μ)) := by rw [p2.s 48 rfl]; exact h.1.2.2.1
              refine ⟨w, ?_, p2, p3, fun z z1 z2 => p4 z z1 (by omega)⟩
              simp (disch := omega) only [fm_mooring_b121, e48, iI_lit, iI_add, iI_sub, iI_mul, iI_neg, obs, if_true, if_false, Int.reduceEq, Int.reduceLE, Int.reduceLT, Int.reduceAdd, Int.reduceSub, Int.reduceMul, Int.reduceNeg, Nat.reduceEqDiff, iI_le, iI_lt, iI_eq]
              rw [if_pos (by omega)]
          obtain ⟨w, ew, fw, fw2, aw26⟩ := l2
          have e48w : w.1 48 = iI (rB (uR μ)) := by rw [fw.s 48 rfl]; exact h.1.2.2.1
          refine ⟨(iI (mnM D (rB (uR μ)).toNat), iI (btM (uX μ) D (rB (uR μ)).toNat), iI ((i : Int) + 1), mSi w 61 (iI (rB (uR μ)))), ?_, by rw [hE], by rw [hE], rfl, fw.si rfl, fun j hj => ?_, fun _ => ⟨rfl, ?_⟩⟩
          · unfold fm_mooring_j110
            rw [ebt, obs, show (0 : Int32) = iI 0 from rfl, ew, obs, e48w]
            simp (disch := omega) only [iI_lit, iI_add, iI_sub, iI_mul, iI_neg, obs, if_true, if_false, Int.reduceEq, Int.reduceLE, Int.reduceLT, Int.reduceAdd, Int.reduceSub, Int.reduceMul, Int.reduceNeg, Nat.reduceEqDiff, pI]
          · show w.2.2.1 32 j = _
            rw [fw2.a 32 rfl]; exact a32' j hj
          · rw [hE]
            intro z z1 z2
            show w.2.2.1 26 z.toNat = iI (if 0 ≤ z ∧ z < rB (uR μ) then rwM D z else 0)
            rw [if_pos ⟨z1, z2⟩]
            exact aw26 z z1 z2
        unfold upM at hAi
        simp (disch := omega) only [if_pos hk1, iI_le, iI_lt, iI_eq, ebt]
        rw [if_neg (by omega)]
        by_cases c1 : mnM D (rB (uR μ)).toNat < (A i).1
        · rw [if_neg (by omega)] at hAi
          rw [if_pos c1]
          exact ⟨_, rfl, by rw [hAi], by rw [hAi], rfl, f02, a32', by rw [hAi]; exact keep⟩
        · rw [if_neg c1]
          by_cases c2 : mnM D (rB (uR μ)).toNat = (A i).1
          · rw [if_pos c2, obs]
            simp (disch := omega) only [iI_le, iI_lt, iI_eq]
            by_cases c3 : btM (uX μ) D (rB (uR μ)).toNat < (A i).2.1
            · rw [if_pos ⟨hk1, Or.inr ⟨c2, c3⟩⟩] at hAi
              rw [if_pos c3]
              exact take hAi
            · rw [if_neg (by omega)] at hAi
              rw [if_neg c3]
              exact ⟨_, rfl, by rw [hAi], by rw [hAi], rfl, f02, a32', by rw [hAi]; exact keep⟩
          · rw [if_pos ⟨hk1, Or.inl (by omega)⟩] at hAi
            rw [if_neg c2]
            exact take hAi
      · unfold upM at hAi
        rw [if_neg (fun z => hk1 z.1)] at hAi
        simp (disch := omega) only [if_neg hk1, iI_lit, iI_add, iI_sub, iI_mul, iI_neg, obs, if_true, if_false, Int.reduceEq, Int.reduceLE, Int.reduceLT, Int.reduceAdd, Int.reduceSub, Int.reduceMul, Int.reduceNeg, Nat.reduceEqDiff, iI_le, iI_lt, iI_eq]
        exact ⟨_, rfl, by rw [hAi], by rw [hAi], rfl, f02, a32', by rw [hAi]; exact keep⟩
    · rintro ⟨n, b, j, u⟩ ⟨g1, g2, g3, g4, g5, g6⟩
      simp only at g1 g2 g3 g4 g5 g6
      subst g1 g2 g3
      have e48 : u.1 48 = iI (rB (uR μ)) := (h.1.fr g4 rfl rfl).2.2.1
      rw [hfin] at *
      refine ⟨(iI (mooA μ).1, iI (mooA μ).2.1, u), ?_, rfl, rfl, h.lay g4 rfl (g6 hpos).1 (g6 hpos).2⟩
      unfold fm_mooring_b60
      rw [show (9 : Int32) = iI 9 from rfl, e48, ep, obs]
      simp (disch := omega) only [iI_le, iI_lt, iI_eq, iI_lit, iI_add, iI_sub, iI_mul, iI_neg, obs, if_true, if_false, Int.reduceEq, Int.reduceLE, Int.reduceLT, Int.reduceAdd, Int.reduceSub, Int.reduceMul, Int.reduceNeg, Nat.reduceEqDiff]
      rw [if_pos (by omega)]
  obtain ⟨⟨n, b, u⟩, e2, g1, g2, g3⟩ := l1
  simp only at g1 g2 g3
  subst g1 g2
  refine ⟨u, ?_, g3⟩
  unfold fm_mooring
  simp (disch := omega) only [iI_lit, iI_neg, m_isIn, if_pos hk, obs, e1, Int.reduceNeg, e2, iI_le, iI_lt, iI_eq]
  by_cases h0 : k = 0
  · simp only [if_pos h0]; rfl
  · simp only [if_neg h0]; rfl
end H2

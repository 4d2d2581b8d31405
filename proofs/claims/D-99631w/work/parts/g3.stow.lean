/-! LAYER 3: stowing: the model's answer -/
set_option maxRecDepth 100000
def stoA (μ : Mu) : Acc := TF 4 (rL (uR μ)).toNat (upS (uR μ) (uX μ)) (1000000, uA μ 26)
def stoV (μ : Mu) : Int := if (stoA μ).1 = 1000000 then -1 else (stoA μ).1
def uSto (μ : Mu) : Mu := if (stoA μ).1 = 1000000 then uNil μ else uLay μ (rL (uR μ)) (stoA μ).2
/-- what the best so far may be -/
def accB (n : Int) (a : Acc) : Prop := a.1 = 1000000 ∨ (0 ≤ a.1 ∧ a.1 ≤ n)
section G3
variable {ρ : Rv} {s : mS} {x : Int → Int} {μ : Mu}
theorem stwC_b (x D : Int → Int) : stwC ρ x D ≤ 8 := by
  unfold stwC
  split
  · exact (membN_b _ 8).2
  · omega
theorem upS_b (x D : Int → Int) {a : Acc} (h : accB 8 a) : accB 8 (upS ρ x D a) := by
  unfold upS
  split
  · rename_i hc
    exact Or.inr ⟨hc.1, stwC_b x D⟩
  · exact h
theorem foldN_inv {A : Type} {P : A → Prop} {g : Nat → A → A} (n : Nat) {a : A} (h : P a) (hg : ∀ k b, P b → P (g k b)) : P (foldN g n a) := by
  induction n with
  | zero => exact h
  | succ n ih => exact hg n _ ih
theorem M_stowing (h : MR μ s) (hw : wfM μ) : ∃ s', fm_stowing s = some (iI (stoV μ), s') ∧ MR (uSto μ) s' := by
  have hl := hw.1.2.2.2.1
  have hx := hw.2.1
  have f0 : fr [61] [23, 26] s (mSi s 61 (iI 0)) := fr.refl.si rfl
  have hR0 := h.1.fr f0 rfl rfl
  have ha0 := f0.ar h.2.1 rfl
  obtain ⟨s1, e1, f1⟩ := m_nearLoads hR0 hw.1 ha0 hx
  have f01 : fr [61] [23, 26] s s1 := f0.trans (f1.mono rfl rfl)
  have hab := atS_b hw.1 (uX μ) (-1)
  generalize hA : (fun i : Nat => foldN (fun v => upS (uR μ) (uX μ) (dgB 4 (rL (uR μ)).toNat v)) i (1000000, uA μ 26)) = A at *
  have hA0 : A 0 = (1000000, uA μ 26) := by rw [← hA]; rfl
  have hAs : ∀ i, A (i + 1) = upS (uR μ) (uX μ) (dgB 4 (rL (uR μ)).toNat i) (A i) := fun i => by rw [← hA]; rfl
  have hAb : ∀ i, accB 8 (A i) := by
    intro i
    induction i with
    | zero => rw [hA0]; exact Or.inl rfl
    | succ i ih => rw [hAs]; exact upS_b _ _ ih
  have hfin : A (4 ^ (rL (uR μ)).toNat) = stoA μ := by
    rw [← hA]
    exact TF_num (by omega) _ _ _ (upS_ext hw.1 _)
  have h47 : (4 : Nat) ^ (rL (uR μ)).toNat ≤ 4 ^ 7 := Nat.pow_le_pow_right (by omega) (by omega)
  have h47b : (4 : Nat) ^ 7 = 16384 := by decide
  have h47c : (0 : Nat) < 4 ^ (rL (uR μ)).toNat := Nat.pow_pos (by omega)
  have ep : fm_power (iI 4) (iI (rL (uR μ))) = some (iI ((4 ^ (rL (uR μ)).toNat : Nat) : Int)) := by
    rw [m_power (by omega) (by omega)]
    simp
  have l1 : ∃ q, lp (fm_stowing_b16 (iI (atS (uR μ) (uX μ) (-1)))) (iI 1000000, iI 0, s1) = some q ∧ (q.1 = iI (stoA μ).1 ∧ fr [61] [23, 26] s q.2 ∧ (((stoA μ).1 = 1000000 ∧ q.2.1 61 = iI 0) ∨ (¬ (stoA μ).1 = 1000000 ∧ q.2.1 61 = iI (rL (uR μ)) ∧ ar q.2 26 (rL (uR μ)) (stoA μ).2))) := by
    refine lp_inv (fun i q => q.1 = iI (A i).1 ∧ q.2.1 = iI i ∧ fr [61] [23, 26] s q.2.2 ∧ (((A i).1 = 1000000 ∧ q.2.2.1 61 = iI 0) ∨ (¬ (A i).1 = 1000000 ∧ q.2.2.1 61 = iI (rL (uR μ)) ∧ ar q.2.2 26 (rL (uR μ)) (A i).2))) (4 ^ (rL (uR μ)).toNat) ?_ ?_ ⟨by rw [hA0], rfl, f01, Or.inl ⟨by rw [hA0], by rw [f1.s 61 rfl]; rfl⟩⟩
    · rintro i ⟨n, j, u⟩ hi ⟨g1, g2, g3, g4⟩
      simp only at g1 g2 g3 g4
      subst g1 g2
      have hRu := h.1.fr g3 rfl rfl
      have hau := g3.ar h.2.1 rfl
      have hb := hAb i
      have hbb : 0 ≤ (A i).1 ∧ (A i).1 ≤ 1000000 := by rcases hb with z | z <;> omega
      obtain ⟨u2, e2, f2, a2⟩ := m_stowBy hRu hw.1 hau hx (v := i) (by omega) (by omega)
      have e49 : u.1 49 = iI (rL (uR μ)) := hRu.2.2.2.1
      have f02 : fr [61] [23, 26] s u2 := g3.trans (f2.mono rfl rfl)
      have hD := dgB_d4 (rL (uR μ)).toNat i
      have ec : stwC (uR μ) (uX μ) (dgB 4 (rL (uR μ)).toNat i) = if okN (uR μ) (uX μ) (dgB 4 (rL (uR μ)).toNat i) (rL (uR μ)).toNat = 1 then membN (usN (uX μ) (dgB 4 (rL (uR μ)).toNat i) (rL (uR μ)).toNat) 8 else -1 := rfl
      have hAi := hAs i
      unfold upS at hAi
      have hub := usN_b (x := uX μ) hD (rL (uR μ)).toNat
      have hmb := membN_b (usN (uX μ) (dgB 4 (rL (uR μ)).toNat i) (rL (uR μ)).toNat) 8
      generalize hDD : dgB 4 (rL (uR μ)).toNat (i : Int) = D at *
      have keep : ((A i).1 = 1000000 ∧ u2.1 61 = iI 0) ∨ (¬ (A i).1 = 1000000 ∧ u2.1 61 = iI (rL (uR μ)) ∧ ar u2 26 (rL (uR μ)) (A i).2) := by
        rcases g4 with z | z
        · exact Or.inl ⟨z.1, by rw [f2.s 61 rfl]; exact z.2⟩
        · exact Or.inr ⟨z.1, by rw [f2.s 61 rfl]; exact z.2.1, f2.ar z.2.2 rfl⟩
      left
      unfold fm_stowing_b16
      rw [show (4 : Int32) = iI 4 from rfl, e49, ep, obs]
      simp (disch := omega) only [iI_le, iI_lt, iI_eq, iI_lit, iI_add, iI_sub, iI_mul, iI_neg, obs, if_true, if_false, Int.reduceEq, Int.reduceLE, Int.reduceLT, Int.reduceAdd, Int.reduceSub, Int.reduceMul, Int.reduceNeg, Nat.reduceEqDiff]
      rw [if_neg (by omega), e2, obs]
      simp only
      by_cases hk : okN (uR μ) (uX μ) D (rL (uR μ)).toNat = 1
      · rw [if_pos hk] at ec
        simp only [if_pos hk]
        have em := m_members (S := usN (uX μ) D (rL (uR μ)).toNat) hub.1 (by omega)
        simp (disch := omega) only [iI_le, iI_lt, iI_eq, em, obs]
        rw [if_neg (by omega)]
        rw [ec] at hAi
        by_cases hc : membN (usN (uX μ) D (rL (uR μ)).toNat) 8 < (A i).1
        · rw [if_pos hc]
          rw [if_pos ⟨hmb.1, hc⟩] at hAi
          have a2' := a2 hk
          have l2 : ∃ q, lp (fm_stowing_b62 (iI (atS (uR μ) (uX μ) (-1))) (iI (membN (usN (uX μ) D (rL (uR μ)).toNat) 8)) (iI i)) (iI 0, u2) = some q ∧ (fr [61] [23, 26] s q ∧ ar q 26 (rL (uR μ)) (fun l => if 0 ≤ l ∧ l < rL (uR μ) ∧ uX μ (20 + l) = -1 then D l else -1)) := by
            refine lp_inv (fun k q => q.1 = iI k ∧ fr [61] [23, 26] s q.2 ∧ ar q.2 23 28 (mvX (uR μ) (uX μ) D) ∧ ar q.2 26 k (fun l => if 0 ≤ l ∧ l < rL (uR μ) ∧ uX μ (20 + l) = -1 then D l else -1)) (rL (uR μ)).toNat ?_ ?_ ⟨rfl, f02, a2', fun z z1 z2 => by omega⟩
            · rintro k ⟨j, w⟩ hk9 ⟨k1, k2, k3, k4⟩
              simp only at k1 k2 k3 k4
              subst k1
              have e49 : w.1 49 = iI (rL (uR μ)) := by rw [k2.s 49 rfl]; exact h.1.2.2.2.1
              have hnb := near_bit hw.1 (uX μ) (-1) (k := k) (by omega)
              have a23 := k3 (20 + k) (by omega) (by omega)
              have emv : mvX (uR μ) (uX μ) D (20 + k) = if uX μ (20 + k) = -1 then D k else uX μ (20 + k) := by
                unfold mvX
                by_cases c : uX μ (20 + k) = -1
                · rw [if_pos ⟨by omega, by omega, c⟩, if_pos c, show 20 + (k : Int) - 20 = k by omega]
                · rw [if_neg (fun z => c z.2.2), if_neg c]
              rw [emv] at a23
              left
              refine ⟨(iI ((k : Int) + 1), aw w 26 (k : Int).toNat (iI (if uX μ (20 + k) = -1 then D k else -1))), ?_, rfl, k2.aw rfl, ar_awn k3 rfl, fun z z1 z2 => ?_⟩
              · simp (disch := omega) only [fm_stowing_b62, e49, iI_lit, iI_add, iI_sub, iI_mul, iI_neg, obs, if_true, if_false, Int.reduceEq, Int.reduceLE, Int.reduceLT, Int.reduceAdd, Int.reduceSub, Int.reduceMul, Int.reduceNeg, Nat.reduceEqDiff, iI_le, iI_lt, iI_eq, bit_i, hnb, ld_i, sto_i, a23, sto_w]
                rw [if_neg (by omega)]
                by_cases c : uX μ (20 + k) = -1
                · simp only [if_pos c, iI_lit, iI_add, iI_sub, iI_mul, iI_neg, obs, if_true, if_false, Int.reduceEq, Int.reduceLE, Int.reduceLT, Int.reduceAdd, Int.reduceSub, Int.reduceMul, Int.reduceNeg, Nat.reduceEqDiff]
                  rfl
                · simp only [if_neg c, iI_lit, iI_add, iI_sub, iI_mul, iI_neg, obs, if_true, if_false, Int.reduceEq, Int.reduceLE, Int.reduceLT, Int.reduceAdd, Int.reduceSub, Int.reduceMul, Int.reduceNeg, Nat.reduceEqDiff, show ¬ iI 0 = iI 1 by decide]
                  rfl
              · rw [aw_get]
                by_cases hz : z = k
                · rw [if_pos ⟨rfl, by rw [hz]⟩]
                  show _ = iI (if 0 ≤ z ∧ z < rL (uR μ) ∧ uX μ (20 + z) = -1 then D z else -1)
                  rw [hz]
                  by_cases c : uX μ (20 + k) = -1
                  · rw [if_pos c, if_pos ⟨by omega, by omega, c⟩]
                  · rw [if_neg c, if_neg (fun w => c w.2.2)]
                · rw [if_neg (by omega)]
                  exact k4 z z1 (by omega)
            · rintro ⟨j, w⟩ ⟨k1, k2, k3, k4⟩
              simp only at k1 k2 k3 k4
              subst k1
              have e49 : w.1 49 = iI (rL (uR μ)) := by rw [k2.s 49 rfl]; exact h.1.2.2.2.1
              rw [show (((rL (uR μ)).toNat : Nat) : Int) = rL (uR μ) by omega] at k4
              refine ⟨w, ?_, k2, k4⟩
              simp (disch := omega) only [fm_stowing_b62, e49, iI_lit, iI_add, iI_sub, iI_mul, iI_neg, obs, if_true, if_false, Int.reduceEq, Int.reduceLE, Int.reduceLT, Int.reduceAdd, Int.reduceSub, Int.reduceMul, Int.reduceNeg, Nat.reduceEqDiff, iI_le, iI_lt, iI_eq]
              rw [if_pos (by omega)]
          obtain ⟨q, eq, q1, q2⟩ := l2
          have e49q : q.1 49 = iI (rL (uR μ)) := by rw [q1.s 49 rfl]; exact h.1.2.2.2.1
          rw [eq, obs]
          simp only [pI, obs, e49q]
          refine ⟨_, rfl, by rw [hAi], rfl, q1.si rfl, Or.inr ⟨by rw [hAi]; show ¬ membN _ 8 = 1000000; omega, rfl, by rw [hAi]; exact q2⟩⟩
        · rw [if_neg hc]
          rw [if_neg (fun z => hc z.2)] at hAi
          exact ⟨_, rfl, by rw [hAi], rfl, f02, by rw [hAi]; exact keep⟩
      · rw [if_neg hk] at ec
        simp only [if_neg hk]
        rw [ec, if_neg (by omega)] at hAi
        rw [if_pos (by decide)]
        exact ⟨_, rfl, by rw [hAi], rfl, f02, by rw [hAi]; exact keep⟩
    · rintro ⟨n, j, u⟩ ⟨g1, g2, g3, g4⟩
      simp only at g1 g2 g3 g4
      subst g1 g2
      have e49 : u.1 49 = iI (rL (uR μ)) := by rw [g3.s 49 rfl]; exact h.1.2.2.2.1
      rw [hfin] at g4 ⊢
      refine ⟨(iI (stoA μ).1, u), ?_, rfl, g3, g4⟩
      unfold fm_stowing_b16
      rw [show (4 : Int32) = iI 4 from rfl, e49, ep, obs]
      simp (disch := omega) only [iI_le, iI_lt, iI_eq]
      rw [if_pos (by omega)]
  obtain ⟨q, eq, q1, q2, q3⟩ := l1
  have hb : accB 8 (stoA μ) := by rw [← hfin]; exact hAb _
  have hbb : 0 ≤ (stoA μ).1 ∧ (stoA μ).1 ≤ 1000000 := by rcases hb with z | z <;> omega
  have e0 : fm_stowing s = if (stoA μ).1 = 1000000 then some (iI (-1), q.2) else some (iI (stoA μ).1, q.2) := by
    unfold fm_stowing
    simp only [pI, obs]
    rw [show (0 : Int32) = iI 0 from rfl, e1, obs, show (1000000 : Int32) = iI 1000000 from rfl, eq, obs, q1]
    simp (disch := omega) only [iI_le, iI_lt, iI_eq]
    rfl
  refine ⟨q.2, ?_, ?_⟩
  · rw [e0]
    unfold stoV
    split <;> rfl
  · unfold uSto
    rcases q3 with z | z
    · rw [if_pos z.1]
      exact h.nil q2 rfl z.2
    · rw [if_neg z.1]
      exact h.lay q2 rfl z.2.1 z.2.2
end G3

/-! LAYER 3: rows that fit: the model, its end -/
set_option maxRecDepth 100000
section F2
variable {s : mS} {μ : Mu}
theorem m_fitAll (h : MR μ s) (hw : wfM μ) {u : mS} {J : List Nat} (f : fr [] J s u) (hJ : J.all (fun k => !([34, 35, 36, 37, 38, 39].contains k)) = true) {c g : Int → Int} (hc : ar u 40 (rR (uR μ)) c) (hg : ar u 41 (rR (uR μ)) g) (hb : ∀ i, 0 ≤ i → i < rR (uR μ) → (0 ≤ c i ∧ c i ≤ 999) ∧ 0 ≤ g i ∧ g i ≤ 999) {k : Int} (h1 : -2147483648 ≤ k) (h2 : k < 2147483648) (v2 v3 : Int32) : lp (fm_layFits_b197 u (iI k) v2 v3) (iI 1, iI 0) = some (iI (fitN μ k c g (uS μ 75).toNat)) := by
  have h75 := hw.2.2.2.2.2.2.2.1
  have h10 := hw.2.2.2.2.2.2.2.2.2.1
  have hr := hw.1.2.1
  have e75 : u.1 75 = iI (uS μ 75) := by rw [f.s 75 rfl]; exact h.2.2.1.2.2.2.2.2.2.1
  have sg := h.2.2.2.2.2.1
  have q34 := f.ar (sg 34 (by decide)) (off_all hJ rfl)
  have q35 := f.ar (sg 35 (by decide)) (off_all hJ rfl)
  have q36 := f.ar (sg 36 (by decide)) (off_all hJ rfl)
  have q37 := f.ar (sg 37 (by decide)) (off_all hJ rfl)
  have q38 := f.ar (sg 38 (by decide)) (off_all hJ rfl)
  have q39 := f.ar (sg 39 (by decide)) (off_all hJ rfl)
  have : ∃ r, lp (fm_layFits_b197 u (iI k) v2 v3) (iI 1, iI 0) = some r ∧ r = iI (fitN μ k c g (uS μ 75).toNat) := by
    refine lp_inv (fun i q => q = (iI (fitN μ k c g i), iI i)) (uS μ 75).toNat ?_ ?_ rfl
    · rintro i q hi rfl
      obtain ⟨b1, b2, b3, b4, b5, b6⟩ := h10 i (by omega) (by omega)
      have p34 := q34 i (by omega) (by omega)
      have p35 := q35 i (by omega) (by omega)
      have p36 := q36 i (by omega) (by omega)
      have p37 := q37 i (by omega) (by omega)
      have p38 := q38 i (by omega) (by omega)
      have p39 := q39 i (by omega) (by omega)
      have pc := hc (uA μ 35 i - 1) (by omega) (by omega)
      have pg := hg (uA μ 35 i - 1) (by omega) (by omega)
      have bb := hb (uA μ 35 i - 1) (by omega) (by omega)
      have e01 := fitN_01 μ k c g i
      rcases e01 with e0 | e0
      · right
        refine ⟨iI 0, ?_, ?_⟩
        · simp (disch := omega) only [fm_layFits_b197, e75, iI_lit, iI_add, iI_sub, iI_mul, iI_neg, obs, if_true, if_false, Int.reduceEq, Int.reduceLE, Int.reduceLT, Int.reduceAdd, Int.reduceSub, Int.reduceMul, Int.reduceNeg, Nat.reduceEqDiff, iI_le, iI_lt, iI_eq, e0]
          rw [if_neg (by omega)]
        · have := fitN_stop e0 ((uS μ 75).toNat - i)
          rw [show i + ((uS μ 75).toNat - i) = (uS μ 75).toNat by omega] at this
          rw [this]
      · left
        refine ⟨(iI (fitN μ k c g (i + 1)), iI ((i : Int) + 1)), ?_, rfl⟩
        have ej : fm_layFits_j243 u (iI k) v2 v3 (iI i) = some (.inl (iI (if (if uA μ 36 i ≤ (if uA μ 34 i = 0 then c (uA μ 35 i - 1) else g (uA μ 35 i - 1)) then 1 else 0) = uA μ 39 i then 1 else 0), iI ((i : Int) + 1))) := by
          have es : fm_isSo u (iI i) = some (iI (if uA μ 36 i ≤ (if uA μ 34 i = 0 then c (uA μ 35 i - 1) else g (uA μ 35 i - 1)) then 1 else 0)) := by
            simp (disch := omega) only [fm_isSo, fm_isSo_j33, iI_lit, iI_add, iI_sub, iI_mul, iI_neg, obs, if_true, if_false, Int.reduceEq, Int.reduceLE, Int.reduceLT, Int.reduceAdd, Int.reduceSub, Int.reduceMul, Int.reduceNeg, Nat.reduceEqDiff, iI_le, iI_lt, iI_eq, ld_i, sto_i, p35, p34, p36, pc, pg]
            rcases b1 with z | z
            · simp only [if_pos z]
              by_cases zz : c (uA μ 35 i - 1) < uA μ 36 i
              · rw [if_pos zz, if_neg (by omega)]
              · rw [if_neg zz, if_pos (by omega)]
            · simp only [if_neg (show ¬ uA μ 34 i = 0 by omega)]
              by_cases zz : g (uA μ 35 i - 1) < uA μ 36 i
              · rw [if_pos zz, if_neg (by omega)]
              · rw [if_neg zz, if_pos (by omega)]
          generalize hso : (if uA μ 36 i ≤ (if uA μ 34 i = 0 then c (uA μ 35 i - 1) else g (uA μ 35 i - 1)) then (1 : Int) else 0) = so at *
          have hso2 : so = 0 ∨ so = 1 := by
            rw [← hso]
            by_cases q9 : uA μ 36 i ≤ (if uA μ 34 i = 0 then c (uA μ 35 i - 1) else g (uA μ 35 i - 1))
            · rw [if_pos q9]; exact Or.inr rfl
            · rw [if_neg q9]; exact Or.inl rfl
          simp (disch := omega) only [fm_layFits_j243, es, iI_lit, iI_add, iI_sub, iI_mul, iI_neg, obs, if_true, if_false, Int.reduceEq, Int.reduceLE, Int.reduceLT, Int.reduceAdd, Int.reduceSub, Int.reduceMul, Int.reduceNeg, Nat.reduceEqDiff, iI_le, iI_lt, iI_eq, ld_i, sto_i, p39]
          split <;> rfl
        simp (disch := omega) only [fm_layFits_b197, e75, iI_lit, iI_add, iI_sub, iI_mul, iI_neg, obs, if_true, if_false, Int.reduceEq, Int.reduceLE, Int.reduceLT, Int.reduceAdd, Int.reduceSub, Int.reduceMul, Int.reduceNeg, Nat.reduceEqDiff, iI_le, iI_lt, iI_eq, e0, ld_i, sto_i, p37, p38, ej, fitN, sgF]
        rw [if_neg (by omega)]
        by_cases c1 : k < uA μ 37 i
        · rw [if_pos c1, if_pos (Or.inl c1)]
        · rw [if_neg c1]
          by_cases c2 : uA μ 38 i < 0
          · rw [if_pos c2, if_neg (show ¬ (k < uA μ 37 i ∨ 0 ≤ uA μ 38 i ∧ uA μ 38 i ≤ k) by omega)]
          · rw [if_neg c2]
            by_cases c3 : uA μ 38 i ≤ k
            · rw [if_pos c3, if_pos (show k < uA μ 37 i ∨ 0 ≤ uA μ 38 i ∧ uA μ 38 i ≤ k by omega)]
            · rw [if_neg c3, if_neg (show ¬ (k < uA μ 37 i ∨ 0 ≤ uA μ 38 i ∧ uA μ 38 i ≤ k) by omega)]
    · rintro q rfl
      refine ⟨_, ?_, rfl⟩
      simp (disch := omega) only [fm_layFits_b197, e75, iI_lit, iI_add, iI_sub, iI_mul, iI_neg, obs, if_true, if_false, Int.reduceEq, Int.reduceLE, Int.reduceLT, Int.reduceAdd, Int.reduceSub, Int.reduceMul, Int.reduceNeg, Nat.reduceEqDiff, iI_le, iI_lt, iI_eq]
      rw [if_pos (by omega)]
  obtain ⟨r, e, rfl⟩ := this
  exact e
/-- the tally -/
def talM (n : Int) (u : mS) (T : Int → Int → Int) : Prop := ∀ i e, 0 ≤ i → i < n → -1 ≤ e → e ≤ 1 → u.2.2.1 42 (3 * i + e + 1).toNat = iI (T i e)
theorem m_tally {u : mS} {n : Int} {T : Int → Int → Int} {t : Int → Int} (hn : 0 ≤ n ∧ n ≤ 6) (e47 : u.1 47 = iI n) (h25 : ar u 25 n t) (ht : ∀ i, -1 ≤ t i ∧ t i ≤ 1) (hT : talM n u T) (v1 v2 v3 : Int32) : ∃ r, lp (fm_layFits_b286 v1 v2 v3) (iI 0, u) = some r ∧ (fr [] [42] u r ∧ talM n r (fun i e => T i e + (if t i = e then 1 else 0))) := by
  refine lp_inv (fun i q => q.1 = iI i ∧ fr [] [42] u q.2 ∧ talM n q.2 (fun j e => T j e + (if j < i ∧ t j = e then 1 else 0))) n.toNat ?_ ?_ ⟨rfl, fr.refl, fun i e i1 i2 e1 e2 => ?_⟩
  · rintro i ⟨k, w⟩ hi ⟨g1, g2, g3⟩
    simp only at g1 g2 g3
    subst g1
    have e1 : w.1 47 = iI n := by rw [g2.s 47 rfl]; exact e47
    have e2 : w.2.2.1 25 (i : Int).toNat = iI (t i) := by rw [g2.a 25 rfl]; exact h25 i (by omega) (by omega)
    have hti := ht i
    have e3 := g3 i (t i) (by omega) (by omega) hti.1 hti.2
    simp only at e3
    rw [if_neg (by omega), Int.add_zero] at e3
    left
    refine ⟨(iI ((i : Int) + 1), aw w 42 (3 * (i : Int) + t i + 1).toNat (iI (T i (t i) + 1))), ?_, rfl, g2.aw rfl, fun j e j1 j2 j3 j4 => ?_⟩
    · simp (disch := omega) only [fm_layFits_b286, e1, iI_lit, iI_add, iI_sub, iI_mul, iI_neg, obs, if_true, if_false, Int.reduceEq, Int.reduceLE, Int.reduceLT, Int.reduceAdd, Int.reduceSub, Int.reduceMul, Int.reduceNeg, Nat.reduceEqDiff, iI_le, iI_lt, iI_eq, ld_i, sto_i, e2, e3]
      rw [if_neg (by omega)]
      rfl
    · rw [aw_get]
      by_cases hz : j = i ∧ e = t i
      · obtain ⟨rfl, rfl⟩ := hz
        show _ = iI (T i (t i) + (if (i : Int) < ((i + 1 : Nat) : Int) ∧ t i = t i then 1 else 0))
        rw [if_pos ⟨rfl, rfl⟩, if_pos ⟨by omega, rfl⟩]
      · rw [if_neg (by omega), g3 j e j1 j2 j3 j4]
        show iI (T j e + (if j < (i : Int) ∧ t j = e then 1 else 0)) = iI (T j e + (if j < ((i + 1 : Nat) : Int) ∧ t j = e then 1 else 0))
        by_cases hj : j < (i : Int) ∧ t j = e
        · rw [if_pos hj, if_pos (by omega)]
        · rw [if_neg hj, if_neg]
          rintro ⟨z1, z2⟩
          by_cases hji : j = i
          · exact hz ⟨hji, by rw [← z2, hji]⟩
          · exact hj ⟨by omega, z2⟩
  · rintro ⟨k, w⟩ ⟨g1, g2, g3⟩
    simp only at g1 g2 g3
    subst g1
    have e1 : w.1 47 = iI n := by rw [g2.s 47 rfl]; exact e47
    refine ⟨w, ?_, g2, fun j e j1 j2 j3 j4 => ?_⟩
    · simp (disch := omega) only [fm_layFits_b286, e1, iI_lit, iI_add, iI_sub, iI_mul, iI_neg, obs, if_true, if_false, Int.reduceEq, Int.reduceLE, Int.reduceLT, Int.reduceAdd, Int.reduceSub, Int.reduceMul, Int.reduceNeg, Nat.reduceEqDiff, iI_le, iI_lt, iI_eq]
      rw [if_pos (by omega)]
    · rw [g3 j e j1 j2 j3 j4]
      show iI (T j e + (if j < ((n.toNat : Nat) : Int) ∧ t j = e then 1 else 0)) = iI (T j e + (if t j = e then 1 else 0))
      by_cases hj : t j = e
      · rw [if_pos ⟨by omega, hj⟩, if_pos hj]
      · rw [if_neg (fun z => hj z.2), if_neg hj]
  · rw [hT i e i1 i2 e1 e2]
    congr 1
    show T i e = T i e + (if i < ((0 : Nat) : Int) ∧ t i = e then 1 else 0)
    rw [if_neg (by omega), Int.add_zero]
theorem dgl_b (v i : Int) : -1 ≤ dgl v i ∧ dgl v i ≤ 1 := by unfold dgl; omega
theorem cnt_lsf (hw : wfM μ) (k : Int) (hB : ¬ rB (uR μ) = 0) : sumN (fun v => fitF μ k (fx0 (uR μ)) (dgl v)) (p3 (rR (uR μ))).toNat = cntV μ k := by
  have hr := hw.1.2.1
  have := lsf (rR (uR μ)).toNat _ (fitF_ext hw (k := k) (x := fx0 (uR μ)))
  rw [show (((rR (uR μ)).toNat : Nat) : Int) = rR (uR μ) by omega] at this
  unfold cntV
  rw [if_neg hB, ← this]
theorem tal_lsf (hw : wfM μ) (k : Int) (hB : ¬ rB (uR μ) = 0) {i e : Int} (h1 : 0 ≤ i) (h2 : i < rR (uR μ)) : sumN (fun v => if dgl v i = e then fitF μ k (fx0 (uR μ)) (dgl v) else 0) (p3 (rR (uR μ))).toNat = talV μ k i e := by
  have hr := hw.1.2.1
  have := lsf (rR (uR μ)).toNat _ (fitT_ext hw (k := k) (x := fx0 (uR μ)) (e := e) h1 h2)
  rw [show (((rR (uR μ)).toNat : Nat) : Int) = rR (uR μ) by omega] at this
  unfold talV
  rw [if_neg hB, ← this]
theorem m_layFits (h : MR μ s) (hw : wfM μ) {k : Int} (h1 : -2147483648 ≤ k) (h2 : k < 2147483648) : ∃ s', fm_layFits s (iI k) = some (iI (cntV μ k), s') ∧ fr [] [8, 9, 23, 25, 40, 41, 42] s s' ∧ talM (rR (uR μ)) s' (talV μ k) := by
  have hr := hw.1.2.1
  have hB0 := hw.1.2.2.1
  have hR := h.1
  have hp0 := p3_pos (rR (uR μ))
  have hp := p3_le (z := rR (uR μ)) (by omega)
  have l1 : ∃ r, lp (fm_layFits_b4 (iI k) 0) (iI 0, s) = some r ∧ (fr [] [42] s r ∧ ar r 42 18 (fun _ => 0)) := by
    refine lp_inv (fun i q => q.1 = iI i ∧ fr [] [42] s q.2 ∧ ar q.2 42 i (fun _ => 0)) 18 ?_ ?_ ⟨rfl, fr.refl, fun z z1 z2 => by omega⟩
    · rintro i ⟨j, u⟩ hi ⟨g1, g2, g3⟩
      simp only at g1 g2 g3
      subst g1
      left
      refine ⟨(iI ((i : Int) + 1), aw u 42 (i : Int).toNat (iI 0)), ?_, rfl, g2.aw rfl, fun z z1 z2 => ?_⟩
      · simp (disch := omega) only [fm_layFits_b4, iI_lit, iI_add, iI_sub, iI_mul, iI_neg, obs, if_true, if_false, Int.reduceEq, Int.reduceLE, Int.reduceLT, Int.reduceAdd, Int.reduceSub, Int.reduceMul, Int.reduceNeg, Nat.reduceEqDiff, iI_le, iI_lt, iI_eq, sto_w]
        rw [if_neg (by omega)]
      · rw [aw_get]
        split
        · rfl
        · exact g3 z z1 (by omega)
    · rintro ⟨j, u⟩ ⟨g1, g2, g3⟩
      simp only at g1 g2 g3
      subst g1
      refine ⟨u, ?_, g2, g3⟩
      simp (disch := omega) only [fm_layFits_b4, iI_lit, iI_add, iI_sub, iI_mul, iI_neg, obs, if_true, if_false, Int.reduceEq, Int.reduceLE, Int.reduceLT, Int.reduceAdd, Int.reduceSub, Int.reduceMul, Int.reduceNeg, Nat.reduceEqDiff, iI_le, iI_lt, iI_eq]
      rw [if_pos (by omega)]
  obtain ⟨s4, e4, f4, a4⟩ := l1
  have ep : fm_power (iI 3) (iI (rR (uR μ))) = some (iI (p3 (rR (uR μ)))) := m_power (by omega) (by omega)
  have hz : talM (rR (uR μ)) s4 (fun _ _ => 0) := fun i e i1 i2 e1 e2 => a4 (3 * i + e + 1) (by omega) (by omega)
  have l2 : ∃ r, lp (fm_layFits_b25 (iI k)) (iI 0, iI 0, s4) = some r ∧ (r.1 = iI (cntV μ k) ∧ fr [] [8, 9, 23, 25, 40, 41, 42] s r.2 ∧ talM (rR (uR μ)) r.2 (talV μ k)) := by
    by_cases hB : rB (uR μ) = 0
    · have e47 : s4.1 47 = iI (rR (uR μ)) := by rw [f4.s 47 rfl]; exact hR.2.1
      have e48 : s4.1 48 = iI (rB (uR μ)) := by rw [f4.s 48 rfl]; exact hR.2.2.1
      refine ⟨(iI 0, s4), lp_out ?_, by unfold cntV; rw [if_pos hB], f4.mono rfl rfl, fun i e i1 i2 e1 e2 => by rw [hz i e i1 i2 e1 e2]; unfold talV; rw [if_pos hB]⟩
      simp (disch := omega) only [fm_layFits_b25, e47, e48, iI_lit, iI_add, iI_sub, iI_mul, iI_neg, obs, if_true, if_false, Int.reduceEq, Int.reduceLE, Int.reduceLT, Int.reduceAdd, Int.reduceSub, Int.reduceMul, Int.reduceNeg, Nat.reduceEqDiff, ep, iI_le, iI_lt, iI_eq]
      rw [if_neg (by omega), if_pos (by omega)]
    · refine lp_inv (fun i q => q.1 = iI (sumN (fun v => fitF μ k (fx0 (uR μ)) (dgl v)) i) ∧ q.2.1 = iI i ∧ fr [] [8, 9, 23, 25, 40, 41, 42] s q.2.2 ∧ talM (rR (uR μ)) q.2.2 (fun j e => sumN (fun v => if dgl v j = e then fitF μ k (fx0 (uR μ)) (dgl v) else 0) i)) (p3 (rR (uR μ))).toNat ?_ ?_ ⟨rfl, rfl, f4.mono rfl rfl, hz⟩
      · rintro i ⟨n, j, u⟩ hi ⟨g1, g2, g3, g4⟩
        simp only at g1 g2 g3 g4
        subst g1 g2
        have hRu := hR.fr g3 rfl rfl
        obtain ⟨u1, e1, f1, a1⟩ := m_fitZero (iI k) (iI (sumN (fun v => fitF μ k (fx0 (uR μ)) (dgl v)) i)) (iI i) u
        have hR1 := hRu.fr f1 rfl rfl
        obtain ⟨u2, e2, f2, a2⟩ := m_fitLoads (iI k) (iI (sumN (fun v => fitF μ k (fx0 (uR μ)) (dgl v)) i)) (iI i) hR1 hw.1 a1
        have hR2 := hR1.fr f2 rfl rfl
        have e19 : u2.2.2.1 19 0 = iI (rBA (uR μ) 0) := hR2.2.2.2.2.2.2.2.2.2.1 0 (by omega) (by omega)
        have f3 : fr [] [23] u2 (aw u2 23 0 (iI (rBA (uR μ) 0))) := fr.refl.aw rfl
        have hR3 := hR2.fr f3 rfl rfl
        have a3 : ar (aw u2 23 0 (iI (rBA (uR μ) 0))) 23 28 (fx0 (uR μ)) := fun z z1 z2 => by
          rw [aw_get]
          unfold fx0
          by_cases hz : z = 0
          · rw [if_pos ⟨rfl, by rw [hz]; rfl⟩, if_pos hz]
          · rw [if_neg (by omega), if_neg hz]
            exact a2 z z1 z2
        have hwx := fx0_wf hw.1 (show 0 < rB (uR μ) by omega)
        have hx4 : fx0 (uR μ) 4 = 0 := by unfold fx0; rw [if_neg (by omega), if_neg (by omega)]
        obtain ⟨u5, e5, f5, b25, b40, b41⟩ := m_fitGo (iI k) (iI (sumN (fun v => fitF μ k (fx0 (uR μ)) (dgl v)) i)) (iI i) hR3 hw.1 (show 0 < rB (uR μ) by omega) a3 hwx hx4 (v := i) (by omega) (by omega)
        have fu5 : fr [] [8, 9, 23, 25, 40, 41] u u5 := (((f1.mono rfl rfl).trans (f2.mono rfl rfl)).trans (f3.mono rfl rfl)).trans f5
        have fs5 : fr [] [8, 9, 23, 25, 40, 41, 42] s u5 := g3.trans (fu5.mono rfl rfl)
        have e6 := m_fitAll h hw fs5 rfl b40 b41 (fun z z1 z2 => by
          obtain ⟨w1, -⟩ := ft_wf (t := dgl i) hw.1 hwx (show 0 < rB (uR μ) by omega) hx4 (z.toNat + 1) (by omega)
          have q := w1.1 0 (by omega) (show 0 < rB (uR μ) by omega)
          have hC := hw.1.1
          rw [show (8 : Int) + 0 = 8 from rfl] at q
          exact ⟨⟨q.1.1, by omega⟩, q.2.2.1.1, by omega⟩) h1 h2 (iI (sumN (fun v => fitF μ k (fx0 (uR μ)) (dgl v)) i)) (iI i)
        have eF : fitN μ k (fun i_1 => ftR (uR μ) (fx0 (uR μ)) (dgl i) (i_1.toNat + 1) 0) (fun i_1 => ftR (uR μ) (fx0 (uR μ)) (dgl i) (i_1.toNat + 1) 8) (uS μ 75).toNat = fitF μ k (fx0 (uR μ)) (dgl i) := rfl
        rw [eF] at e6
        have e01 : fitF μ k (fx0 (uR μ)) (dgl i) = 0 ∨ fitF μ k (fx0 (uR μ)) (dgl i) = 1 := fitN_01 _ _ _ _ _
        have e47 : u.1 47 = iI (rR (uR μ)) := hRu.2.1
        have e48 : u.1 48 = iI (rB (uR μ)) := hRu.2.2.1
        have T5 : talM (rR (uR μ)) u5 (fun j e => sumN (fun v => if dgl v j = e then fitF μ k (fx0 (uR μ)) (dgl v) else 0) i) := fun j e j1 j2 j3 j4 => by rw [fu5.a 42 rfl]; exact g4 j e j1 j2 j3 j4
        have hj : fm_layFits_b25 (iI k) (iI (sumN (fun v => fitF μ k (fx0 (uR μ)) (dgl v)) i), iI i, u) = fm_layFits_j272 u5 (iI k) (iI (sumN (fun v => fitF μ k (fx0 (uR μ)) (dgl v)) i)) (iI i) (iI (fitF μ k (fx0 (uR μ)) (dgl i))) := by
          simp (disch := omega) only [fm_layFits_b25, e47, e48, iI_lit, iI_add, iI_sub, iI_mul, iI_neg, obs, if_true, if_false, Int.reduceEq, Int.reduceLE, Int.reduceLT, Int.reduceAdd, Int.reduceSub, Int.reduceMul, Int.reduceNeg, Nat.reduceEqDiff, ep, iI_le, iI_lt, iI_eq]
          rw [if_neg (by omega), if_neg (by omega), e1, obs, e2, obs, ld_i (by omega) (by omega) (by omega), Int.toNat_zero, e19, obs, sto_w (by omega) (by omega) (by omega), obs, Int.toNat_zero, e5, obs, e6, obs]
        left
        rw [hj]
        unfold fm_layFits_j272
        rcases e01 with z | z
        · refine ⟨(iI (sumN (fun v => fitF μ k (fx0 (uR μ)) (dgl v)) (i + 1)), iI ((i : Int) + 1), u5), ?_, rfl, rfl, fs5, fun j e j1 j2 j3 j4 => ?_⟩
          · simp only [z, iI_lit, iI_add, iI_sub, iI_mul, iI_neg, obs, if_true, if_false, Int.reduceEq, Int.reduceLE, Int.reduceLT, Int.reduceAdd, Int.reduceSub, Int.reduceMul, Int.reduceNeg, Nat.reduceEqDiff, sumN, Int.add_zero]
          · rw [T5 j e j1 j2 j3 j4]
            simp only [sumN, z]
            congr 1
            split <;> omega
        · obtain ⟨u6, e7, f7, T6⟩ := m_tally (u := u5) (n := rR (uR μ)) (t := dgl i) (by omega) (by rw [fu5.s 47 rfl]; exact e47) b25 (dgl_b i) T5 (iI k) (iI (sumN (fun v => fitF μ k (fx0 (uR μ)) (dgl v)) i + 1)) (iI i)
          refine ⟨(iI (sumN (fun v => fitF μ k (fx0 (uR μ)) (dgl v)) (i + 1)), iI ((i : Int) + 1), u6), ?_, rfl, rfl, fs5.trans (f7.mono rfl rfl), fun j e j1 j2 j3 j4 => ?_⟩
          · simp only [z, iI_lit, iI_add, iI_sub, iI_mul, iI_neg, obs, if_true, if_false, Int.reduceEq, Int.reduceLE, Int.reduceLT, Int.reduceAdd, Int.reduceSub, Int.reduceMul, Int.reduceNeg, Nat.reduceEqDiff, show ¬ iI 1 = iI 0 by decide, sumN]
            rw [e7]
            rfl
          · rw [T6 j e j1 j2 j3 j4]
            simp only [sumN, z]
      · rintro ⟨n, j, u⟩ ⟨g1, g2, g3, g4⟩
        simp only at g1 g2 g3 g4
        subst g1 g2
        have hRu := hR.fr g3 rfl rfl
        have e47 : u.1 47 = iI (rR (uR μ)) := hRu.2.1
        refine ⟨(iI (cntV μ k), u), ?_, rfl, g3, fun j e j1 j2 j3 j4 => ?_⟩
        · simp (disch := omega) only [fm_layFits_b25, e47, iI_lit, iI_add, iI_sub, iI_mul, iI_neg, obs, if_true, if_false, Int.reduceEq, Int.reduceLE, Int.reduceLT, Int.reduceAdd, Int.reduceSub, Int.reduceMul, Int.reduceNeg, Nat.reduceEqDiff, ep, iI_le, iI_lt, iI_eq]
          rw [if_pos (by omega), cnt_lsf hw k hB]
        · rw [g4 j e j1 j2 j3 j4, ← tal_lsf hw k hB j1 j2]
  obtain ⟨r, er, r1, r2, r3⟩ := l2
  refine ⟨r.2, ?_, r2, r3⟩
  unfold fm_layFits
  rw [show ((0, s) : Int32 × mS) = (iI 0, s) from rfl, e4, obs, show ((0, 0, s4) : Int32 × Int32 × mS) = (iI 0, iI 0, s4) from rfl, er, obs, r1]
end F2

/-! LAYER 3: rows that fit: the model -/
set_option maxRecDepth 100000
def fx0 (ρ : Rv) : Int → Int := fun z => if z = 0 then rBA ρ 0 else if 20 ≤ z ∧ z < 20 + rL ρ then -1 else 0
/-- does a row (its columns, its heats by stroke) fit what was seen at j, by time k? -/
def sgF (μ : Mu) (k : Int) (c h : Int → Int) (j : Int) : Int := if k < uA μ 37 j ∨ (0 ≤ uA μ 38 j ∧ uA μ 38 j ≤ k) then 1 else if (if uA μ 36 j ≤ (if uA μ 34 j = 0 then c (uA μ 35 j - 1) else h (uA μ 35 j - 1)) then 1 else 0) = uA μ 39 j then 1 else 0
def fitN (μ : Mu) (k : Int) (c h : Int → Int) : Nat → Int
  | 0 => 1
  | j + 1 => if fitN μ k c h j = 0 then 0 else sgF μ k c h j
theorem fitN_01 (μ : Mu) (k : Int) (c h : Int → Int) (j : Nat) : fitN μ k c h j = 0 ∨ fitN μ k c h j = 1 := by
  induction j with
  | zero => exact Or.inr rfl
  | succ j ih =>
    simp only [fitN, sgF]
    repeat' split
    all_goals simp
theorem fitN_stop {μ : Mu} {k : Int} {c h : Int → Int} {i : Nat} (h0 : fitN μ k c h i = 0) (j : Nat) : fitN μ k c h (i + j) = 0 := by
  induction j with
  | zero => exact h0
  | succ j ih =>
    show fitN μ k c h (i + j + 1) = 0
    simp only [fitN]
    rw [if_pos ih]
def fitF (μ : Mu) (k : Int) (x t : Int → Int) : Int := fitN μ k (fun i => ftR (uR μ) x t (i.toNat + 1) 0) (fun i => ftR (uR μ) x t (i.toNat + 1) 8) (uS μ 75).toNat
def cntV (μ : Mu) (k : Int) : Int := if rB (uR μ) = 0 then 0 else allR (rR (uR μ)).toNat (fitF μ k (fx0 (uR μ)))
def talV (μ : Mu) (k i e : Int) : Int := if rB (uR μ) = 0 then 0 else allR (rR (uR μ)).toNat (fun t => if t i = e then fitF μ k (fx0 (uR μ)) t else 0)
theorem fitN_ext {μ : Mu} {k : Int} {c h c' h' : Int → Int} (n : Nat) (hn : ∀ j : Nat, j < n → c (uA μ 35 j - 1) = c' (uA μ 35 j - 1) ∧ h (uA μ 35 j - 1) = h' (uA μ 35 j - 1)) : fitN μ k c h n = fitN μ k c' h' n := by
  induction n with
  | zero => rfl
  | succ n ih =>
    simp only [fitN]
    rw [ih (fun j hj => hn j (by omega))]
    obtain ⟨e1, e2⟩ := hn n (by omega)
    unfold sgF
    rw [e1, e2]
theorem fitF_ext {μ : Mu} (hw : wfM μ) {k : Int} {x : Int → Int} : extR (rR (uR μ)).toNat (fitF μ k x) := by
  intro t t' ht
  have h10 := hw.2.2.2.2.2.2.2.2.2.1
  unfold fitF
  refine fitN_ext _ (fun j hj => ?_)
  have h1 := (h10 j (by omega) (by omega)).2.1
  have e : ftR (uR μ) x t ((uA μ 35 j - 1).toNat + 1) = ftR (uR μ) x t' ((uA μ 35 j - 1).toNat + 1) := ft_ext _ (fun i i1 i2 => ht i i1 (by omega))
  simp only [e]
  exact ⟨trivial, trivial⟩
theorem fitT_ext {μ : Mu} (hw : wfM μ) {k : Int} {x : Int → Int} {i e : Int} (h1 : 0 ≤ i) (h2 : i < rR (uR μ)) : extR (rR (uR μ)).toNat (fun t => if t i = e then fitF μ k x t else 0) := by
  intro t t' ht
  have e1 := fitF_ext hw (k := k) (x := x) t t' ht
  have e2 := ht i h1 (by omega)
  simp only [e1, e2]
theorem fitF_agr {μ : Mu} (hw : wfM μ) {k : Int} {x x' : Int → Int} (h : agr (uR μ) x x') (t : Int → Int) : fitF μ k x t = fitF μ k x' t := by
  unfold fitF
  refine fitN_ext _ (fun j hj => ?_)
  have := agr_ft hw.1 h t ((uA μ 35 j - 1).toNat + 1)
  exact ⟨this.1, this.2.2.1⟩
section F1
variable {ρ : Rv} {s : mS} {μ : Mu}
theorem fx0_wf (hw : wfR ρ) (hB : 0 < rB ρ) : wfS ρ (fx0 ρ) := by
  have hC := hw.1
  have hr := hw.2.1
  have hb := hw.2.2.1
  have hl := hw.2.2.2.1
  have h0 := (hw.2.2.2.2.2.2.2.2.2.1 0 (by omega) (by omega)).2.1
  have other : ∀ z, ¬ z = 0 → z < 20 → fx0 ρ z = 0 := fun z z1 z2 => by
    unfold fx0
    rw [if_neg z1, if_neg (by omega)]
  refine ⟨fun b b1 b2 => ⟨?_, ?_, ?_, ?_⟩, fun l l1 l2 => ?_, ?_⟩
  · by_cases hz : b = 0
    · subst hz
      show 0 ≤ (if (0 : Int) = 0 then rBA ρ 0 else _) ∧ _
      simp only [fx0, if_true]
      exact h0
    · rw [other b hz (by omega)]; omega
  · rw [other (4 + b) (by omega) (by omega)]; omega
  · rw [other (8 + b) (by omega) (by omega)]; omega
  · rw [other (12 + b) (by omega) (by omega)]; omega
  · unfold fx0
    rw [if_neg (by omega), if_pos (by omega)]
    omega
  · unfold fx0
    rw [if_neg (by omega), if_neg (by omega)]
    omega
theorem ft_wf (hw : wfR ρ) {x t : Int → Int} (hx : wfS ρ x) (hB : 0 < rB ρ) (h4 : x 4 = 0) (k : Nat) (hk : (k : Int) ≤ rR ρ) : wfS ρ (ftR ρ x t k) ∧ ftR ρ x t k 4 ≤ k := by
  induction k with
  | zero => exact ⟨hx, by show x 4 ≤ _; omega⟩
  | succ k ih =>
    obtain ⟨i1, i2⟩ := ih (by omega)
    have h0 := (i1.1 0 (by omega) hB).2.1
    rw [show (4 : Int) + 0 = 4 from rfl] at h0
    simp only [ftR]
    refine ⟨wfS_str hw i1 (by omega) hB (by rw [show (4 : Int) + 0 = 4 from rfl]; omega) (by rw [show (4 : Int) + 0 = 4 from rfl]; omega), ?_⟩
    have := str_row (ρ := ρ) (x := ftR ρ x t k) (b := 0) (t := t k) (on := 1) (k := 1) (by omega) (by omega)
    rw [show (4 : Int) + 0 = 4 from rfl] at this
    rw [this]
    split <;> omega
theorem m_fitZero (v1 v2 v3 : Int32) (s : mS) : ∃ r, lp (fm_layFits_b47 v1 v2 v3) (iI 0, s) = some r ∧ (fr [] [23] s r ∧ ar r 23 28 (fun _ => 0)) := by
  refine lp_inv (fun i q => q.1 = iI i ∧ fr [] [23] s q.2 ∧ ar q.2 23 i (fun _ => 0)) 28 ?_ ?_ ⟨rfl, fr.refl, fun z z1 z2 => by omega⟩
  · rintro i ⟨k, u⟩ hi ⟨g1, g2, g3⟩
    simp only at g1 g2 g3
    subst g1
    left
    refine ⟨(iI ((i : Int) + 1), aw u 23 (i : Int).toNat (iI 0)), ?_, rfl, g2.aw rfl, fun z z1 z2 => ?_⟩
    · simp (disch := omega) only [fm_layFits_b47, iI_lit, iI_add, iI_sub, iI_mul, iI_neg, obs, if_true, if_false, Int.reduceEq, Int.reduceLE, Int.reduceLT, Int.reduceAdd, Int.reduceSub, Int.reduceMul, Int.reduceNeg, Nat.reduceEqDiff, iI_le, iI_lt, iI_eq, sto_w]
      rw [if_neg (by omega)]
    · simp only [aw_get, true_and]
      split
      · rfl
      · exact g3 z z1 (by omega)
  · rintro ⟨k, u⟩ ⟨g1, g2, g3⟩
    simp only at g1 g2 g3
    subst g1
    refine ⟨u, ?_, g2, g3⟩
    simp (disch := omega) only [fm_layFits_b47, iI_lit, iI_add, iI_sub, iI_mul, iI_neg, obs, if_true, if_false, Int.reduceEq, Int.reduceLE, Int.reduceLT, Int.reduceAdd, Int.reduceSub, Int.reduceMul, Int.reduceNeg, Nat.reduceEqDiff, iI_le, iI_lt, iI_eq]
    rw [if_pos (by omega)]
theorem m_fitLoads (v1 v2 v3 : Int32) (hR : okR ρ s) (hw : wfR ρ) (h0 : ar s 23 28 (fun _ => 0)) : ∃ r, lp (fm_layFits_b71 v1 v2 v3) (iI 0, s) = some r ∧ (fr [] [23] s r ∧ ar r 23 28 (fun z => if 20 ≤ z ∧ z < 20 + rL ρ then -1 else 0)) := by
  have hl := hw.2.2.2.1
  refine lp_inv (fun i q => q.1 = iI i ∧ fr [] [23] s q.2 ∧ ar q.2 23 28 (fun z => if 20 ≤ z ∧ z < 20 + i then -1 else 0)) (rL ρ).toNat ?_ ?_ ⟨rfl, fr.refl, fun z z1 z2 => by show s.2.2.1 23 z.toNat = iI (if 20 ≤ z ∧ z < 20 + ((0 : Nat) : Int) then -1 else 0); rw [if_neg (by omega)]; exact h0 z z1 z2⟩
  · rintro i ⟨k, u⟩ hi ⟨g1, g2, g3⟩
    simp only at g1 g2 g3
    subst g1
    have e49 : u.1 49 = iI (rL ρ) := by rw [g2.s 49 rfl]; exact hR.2.2.2.1
    left
    refine ⟨(iI ((i : Int) + 1), aw u 23 (20 + (i : Int)).toNat (iI (-1))), ?_, rfl, g2.aw rfl, fun z z1 z2 => ?_⟩
    · simp (disch := omega) only [fm_layFits_b71, e49, iI_lit, iI_add, iI_sub, iI_mul, iI_neg, obs, if_true, if_false, Int.reduceEq, Int.reduceLE, Int.reduceLT, Int.reduceAdd, Int.reduceSub, Int.reduceMul, Int.reduceNeg, Nat.reduceEqDiff, iI_le, iI_lt, iI_eq, sto_w]
      rw [if_neg (by omega)]
    · simp only [aw_get, true_and]
      by_cases hz : z = 20 + i
      · rw [if_pos (by omega), if_pos (by omega)]
      · rw [if_neg (by omega), g3 z z1 z2]
        show iI (if 20 ≤ z ∧ z < 20 + (i : Int) then -1 else 0) = _
        by_cases hz2 : 20 ≤ z ∧ z < 20 + (i : Int)
        · rw [if_pos hz2, if_pos (by omega)]
        · rw [if_neg hz2, if_neg (by omega)]
  · rintro ⟨k, u⟩ ⟨g1, g2, g3⟩
    simp only at g1 g2 g3
    subst g1
    have e49 : u.1 49 = iI (rL ρ) := by rw [g2.s 49 rfl]; exact hR.2.2.2.1
    refine ⟨u, ?_, g2, fun z z1 z2 => ?_⟩
    · simp (disch := omega) only [fm_layFits_b71, e49, iI_lit, iI_add, iI_sub, iI_mul, iI_neg, obs, if_true, if_false, Int.reduceEq, Int.reduceLE, Int.reduceLT, Int.reduceAdd, Int.reduceSub, Int.reduceMul, Int.reduceNeg, Nat.reduceEqDiff, iI_le, iI_lt, iI_eq]
      rw [if_pos (by omega)]
    · rw [g3 z z1 z2, show ((rL ρ).toNat : Int) = rL ρ by omega]
theorem m_fitGo (v1 v2 v3 : Int32) (hR : okR ρ s) (hw : wfR ρ) {x : Int → Int} (hB : 0 < rB ρ) (ha : ar s 23 28 x) (hx : wfS ρ x) (h4 : x 4 = 0) {v : Int} (hv : 0 ≤ v) (hv2 : v < 1000) : ∃ r, lp (fm_layFits_b115 v1 v2 v3) (iI v, iI 0, s) = some r ∧ (fr [] [8, 9, 23, 25, 40, 41] s r ∧ ar r 25 (rR ρ) (dgl v) ∧ ar r 40 (rR ρ) (fun i => ftR ρ x (dgl v) (i.toNat + 1) 0) ∧ ar r 41 (rR ρ) (fun i => ftR ρ x (dgl v) (i.toNat + 1) 8)) := by
  have hr := hw.2.1
  refine lp_inv (fun i q => q.1 = iI (v / 3 ^ i) ∧ q.2.1 = iI i ∧ fr [] [8, 9, 23, 25, 40, 41] s q.2.2 ∧ ar q.2.2 23 28 (ftR ρ x (dgl v) i) ∧ ar q.2.2 25 i (dgl v) ∧ ar q.2.2 40 i (fun i => ftR ρ x (dgl v) (i.toNat + 1) 0) ∧ ar q.2.2 41 i (fun i => ftR ρ x (dgl v) (i.toNat + 1) 8)) (rR ρ).toNat ?_ ?_ ⟨by show iI v = iI (v / 3 ^ 0); rw [Int.pow_zero, Int.ediv_one], rfl, fr.refl, ha, fun z z1 z2 => by omega, fun z z1 z2 => by omega, fun z z1 z2 => by omega⟩
  · rintro i ⟨o, k, u⟩ hi ⟨g1, g2, g3, g4, g5, g6, g7⟩
    simp only at g1 g2 g3 g4 g5 g6 g7
    subst g1 g2
    have hp : (0 : Int) < 3 ^ i := Int.pow_pos (by omega)
    have hd0 : 0 ≤ v / 3 ^ i := Int.ediv_nonneg hv (by omega)
    have hd1 : v / 3 ^ i ≤ v := Int.ediv_le_self _ hv
    have hdi : dgl v i = v / 3 ^ i % 3 - 1 := rfl
    have e47 : u.1 47 = iI (rR ρ) := by rw [g3.s 47 rfl]; exact hR.2.1
    obtain ⟨w1, w2⟩ := ft_wf (t := dgl v) hw hx hB h4 i (by omega)
    have h0 := (w1.1 0 (by omega) hB).2.1
    rw [show (4 : Int) + 0 = 4 from rfl] at h0
    have fA : fr [] [8, 9, 23, 25, 40, 41] s (aw u 25 (i : Int).toNat (iI (dgl v i))) := g3.aw rfl
    have hRA := hR.fr fA rfl rfl
    have aA : ar (aw u 25 (i : Int).toNat (iI (dgl v i))) 23 28 (ftR ρ x (dgl v) i) := ar_awn g4 rfl
    obtain ⟨u2, e2, f2, a2⟩ := m_goStroke hRA hw aA w1 (b := 0) (t := dgl v i) (on := 1) (k := 1) (by omega) hB (by omega) (by omega) (by omega) (by omega) (by rw [show (4 : Int) + 0 = 4 from rfl]; omega) (by rw [show (4 : Int) + 0 = 4 from rfl]; omega)
    have c0 : u2.2.2.1 23 0 = iI (ftR ρ x (dgl v) (i + 1) 0) := a2 0 (by omega) (by omega)
    have c8 : u2.2.2.1 23 8 = iI (ftR ρ x (dgl v) (i + 1) 8) := a2 8 (by omega) (by omega)
    have l25 : (aw u 25 (i : Int).toNat (iI (dgl v i))).2.2.1 25 (i : Int).toNat = iI (dgl v i) := by rw [aw_get, if_pos ⟨rfl, rfl⟩]
    have l8 : ∀ w : Int32, (aw u2 40 (i : Int).toNat w).2.2.1 23 8 = iI (ftR ρ x (dgl v) (i + 1) 8) := fun w => by rw [aw_get, if_neg (by omega)]; exact c8
    left
    refine ⟨(iI (v / 3 ^ i / 3), iI ((i : Int) + 1), aw (aw u2 40 (i : Int).toNat (iI (ftR ρ x (dgl v) (i + 1) 0))) 41 (i : Int).toNat (iI (ftR ρ x (dgl v) (i + 1) 8))), ?_, ?_, rfl, ((fA.trans (f2.mono rfl rfl)).aw rfl).aw rfl, ar_awn (ar_awn a2 rfl) rfl, fun z z1 z2 => ?_, fun z z1 z2 => ?_, fun z z1 z2 => ?_⟩
    · simp (disch := omega) only [fm_layFits_b115, e47, iI_lit, iI_add, iI_sub, iI_mul, iI_neg, obs, if_true, if_false, Int.reduceEq, Int.reduceLE, Int.reduceLT, Int.reduceAdd, Int.reduceSub, Int.reduceMul, Int.reduceNeg, Nat.reduceEqDiff, iI_le, iI_lt, iI_eq]
      rw [if_neg (by omega), rm_i hd0 (by omega) (by omega) (by omega), obs, iI_sub, ← hdi]
      simp (disch := omega) only [sto_w, obs]
      rw [dv_i hd0 (by omega) (by omega) (by omega), obs]
      simp (disch := omega) only [ld_i, l25, obs, e2, Int.reduceToNat, c0, sto_w, l8]
    · show iI (v / 3 ^ i / 3) = iI (v / 3 ^ (i + 1))
      rw [Int.pow_succ, Int.ediv_ediv_of_nonneg (by omega)]
    · rw [aw_get, if_neg (by omega), aw_get, if_neg (by omega), f2.a 25 rfl]
      rw [aw_get]
      by_cases hz : z = i
      · rw [if_pos ⟨rfl, by rw [hz]⟩, hz]
      · rw [if_neg (by omega)]
        exact g5 z z1 (by omega)
    · rw [aw_get, if_neg (by omega), aw_get]
      by_cases hz : z = i
      · rw [if_pos ⟨rfl, by rw [hz]⟩, hz]
        rfl
      · rw [if_neg (by omega), f2.a 40 rfl, aw_get, if_neg (by omega)]
        exact g6 z z1 (by omega)
    · rw [aw_get]
      by_cases hz : z = i
      · rw [if_pos ⟨rfl, by rw [hz]⟩, hz]
        rfl
      · rw [if_neg (by omega), aw_get, if_neg (by omega), f2.a 41 rfl, aw_get, if_neg (by omega)]
        exact g7 z z1 (by omega)
  · rintro ⟨o, k, u⟩ ⟨g1, g2, g3, g4, g5, g6, g7⟩
    simp only at g1 g2 g3 g4 g5 g6 g7
    subst g1 g2
    have e47 : u.1 47 = iI (rR ρ) := by rw [g3.s 47 rfl]; exact hR.2.1
    rw [show (((rR ρ).toNat : Nat) : Int) = rR ρ by omega] at g5 g6 g7
    refine ⟨u, ?_, g3, g5, g6, g7⟩
    simp (disch := omega) only [fm_layFits_b115, e47, iI_lit, iI_add, iI_sub, iI_mul, iI_neg, obs, if_true, if_false, Int.reduceEq, Int.reduceLE, Int.reduceLT, Int.reduceAdd, Int.reduceSub, Int.reduceMul, Int.reduceNeg, Nat.reduceEqDiff, iI_le, iI_lt, iI_eq]
    rw [if_pos (by omega)]
end F1

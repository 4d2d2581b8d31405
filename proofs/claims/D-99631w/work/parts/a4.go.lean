/-! LAYER 3: the model's strokes, whole -/
set_option maxRecDepth 100000
/-- an array's element is written -/
def aw (s : mS) (j i : Nat) (v : Int32) : mS := mSa s j (upd (s.2.2.1 j) i v)
theorem aw_get {s : mS} {j i j' k : Nat} {v : Int32} : (aw s j i v).2.2.1 j' k = if j' = j ∧ k = i then v else s.2.2.1 j' k := by
  unfold aw
  rw [sa_get]
  by_cases h : j' = j
  · subst h
    simp only [if_true, upd, true_and]
  · simp only [h, if_false, false_and]
theorem aw_1 {s : mS} {j i : Nat} {v : Int32} : (aw s j i v).1 = s.1 := rfl
theorem sto_w {j n : Nat} {s : mS} {z : Int} {v : Int32} (h1 : 0 ≤ z) (h2 : z < n) (h3 : n < 2147483648) : sto j n s (iI z) v = some (aw s j z.toNat v) := sto_i h1 h2 h3
theorem ar_aw {s : mS} {j : Nat} {n z v : Int} {f : Int → Int} (h : ar s j n f) (h1 : 0 ≤ z) : ar (aw s j z.toNat (iI v)) j n (upI f z v) := ar_upd h h1
theorem ar_awn {s : mS} {i j k : Nat} {n : Int} {f : Int → Int} {v : Int32} (h : ar s j n f) (hij : Nat.beq j i = false) : ar (aw s i k v) j n f := ar_ne h hij
theorem fr.aw {K J : List Nat} {σ σ1 : mS} {j i : Nat} {v : Int32} (a : fr K J σ σ1) (h : J.contains j = true) : fr K J σ (aw σ1 j i v) := a.sa h
section M4
variable {ρ : Rv} {s : mS} {x : Int → Int}
theorem burd_b (hw : wfR ρ) (x : Int → Int) (b : Int) : 0 ≤ burd ρ x b ∧ burd ρ x b ≤ 693 := by
  have hw1 := hw
  obtain ⟨-, -, -, hl, -⟩ := hw
  have := sumW_b hw1 x b (rL ρ).toNat (by omega)
  unfold burd
  omega
theorem m_hotterOf (hR : okR ρ s) (hw : wfR ρ) (ha : ar s 23 28 x) (hx : wfS ρ x) {b : Int} (h1 : 0 ≤ b) (h2 : b < rB ρ) : ∃ s', fm_hotterOf s (iI b) = some (iI (hot ρ x b), s') ∧ fr [] [8, 9] s s' := by
  have hw1 := hw
  obtain ⟨-, -, hbb, -, -, -, -, -, -, hbw, -, hok, hlen⟩ := hw
  have hR1 := hR
  obtain ⟨-, -, -, -, -, -, -, -, hBW, -, -, -, h18, hst⟩ := hR
  have a4 := ha (4 + b) (by omega) (by omega)
  have a0 := ha b (by omega) (by omega)
  have a16 := ha (16 + b) (by omega) (by omega)
  have a8 := ha (8 + b) (by omega) (by omega)
  have w18 := hBW b h1 h2
  have bo : ∀ i v j w, fm_burdenOf (aw (aw s 9 i v) 9 j w) (iI b) = some (iI (burd ρ x b)) := fun i v j w => m_burdenOf hR1 hw1 ha hx (by omega) (by omega)
  unfold fm_hotterOf
  simp (disch := omega) only [iI_lit, iI_add, iI_sub, iI_mul, iI_neg, Option.bind_some, if_true, if_false, Int.reduceEq, Int.reduceLE, Int.reduceLT, Int.reduceAdd, Int.reduceSub, Int.reduceMul, Int.reduceNeg, Nat.reduceEqDiff, ld_i, sto_w, aw_get, aw_1, Nat.reduceEqDiff, false_and, true_and, and_true, Int.reduceToNat, a4, a0, a16, a8, w18, bo]
  obtain ⟨r, e, hf, hv⟩ := m_hotLoop (fun k => iI (askI ρ x b k)) (l := rS ρ) (u := aw (aw (aw (aw (aw (aw (aw s 9 0 (iI (x (4 + b)))) 9 1 (iI (x b))) 9 2 (iI (burd ρ x b))) 9 3 (iI (rBW ρ b))) 9 4 (iI (x (16 + b)))) 9 5 (iI (x (8 + b)))) 8 0 (iI 1)) h18 hlen hst (by
    intro k hk
    simp only [aw_get, Nat.reduceEqDiff, false_and, true_and, if_false]
    match k, hk with
    | 0, _ => rfl
    | 1, _ => rfl
    | 2, _ => rfl
    | 3, _ => rfl
    | 4, _ => rfl
    | 5, _ => rfl) (fun _ => rfl) hok
  refine ⟨r, ?_, (fr.trans (((((((fr.refl.aw rfl).aw rfl).aw rfl).aw rfl).aw rfl).aw rfl).aw rfl) (hf.mono rfl rfl))⟩
  rw [e]
  have hv' : r.2.2.1 8 0 = iI (evalF (rS ρ) (fun k => iI (askI ρ x b k))).toInt := by rw [← iI_of]; exact hv
  have h3 := Int32.toInt_lt (evalF (rS ρ) (fun k => iI (askI ρ x b k)))
  have h4 := Int32.le_toInt (evalF (rS ρ) (fun k => iI (askI ρ x b k)))
  rw [Option.bind_some, hv']
  simp (disch := omega) only [Option.bind_some, m_within, hot]
/-- a stroke: what it answers, what is then -/
def strV (ρ : Rv) (x : Int → Int) (b t on k : Int) : Int := rIr ρ (8 * (x (4 + b) + on) + colBy ρ (x b) (x (4 + b)) t k) + 2 * (if (if x (8 + b) + hot ρ x b ≤ 99 then x (8 + b) + hot ρ x b else 99) ≤ rBB ρ b then 0 else 1)
def strS (ρ : Rv) (x : Int → Int) (b t on k : Int) : Int → Int :=
  let c := colBy ρ (x b) (x (4 + b)) t k
  let x1 := if rIr ρ (8 * (x (4 + b) + on) + c) = 0 then upI (upI x b c) (4 + b) (x (4 + b) + on) else x
  let x2 := upI x1 (16 + b) (x (16 + b) + 1)
  let h := if x (8 + b) + hot ρ x b ≤ 99 then x (8 + b) + hot ρ x b else 99
  if h ≤ rBB ρ b then upI x2 (8 + b) h else if 999 ≤ x (12 + b) then upI x2 (8 + b) 0 else upI (upI x2 (8 + b) 0) (12 + b) (x (12 + b) + 1)
theorem colBy_b (hw : wfR ρ) (c r t k : Int) : 0 ≤ colBy ρ c r t k ∧ colBy ρ c r t k < rC ρ := by
  obtain ⟨hc, -⟩ := hw
  unfold colBy clampI
  split
  · split <;> omega
  · omega
theorem m_goStroke (hR : okR ρ s) (hw : wfR ρ) (ha : ar s 23 28 x) (hx : wfS ρ x) {b t on k : Int} (h1 : 0 ≤ b) (h2 : b < rB ρ) (h3 : -1 ≤ t) (h4 : t ≤ 1) (h5 : 0 ≤ k) (h6 : k ≤ 2) (h7 : 0 ≤ x (4 + b) + on) (h8 : x (4 + b) + on ≤ rR ρ) : ∃ s', fm_goStroke s (iI b) (iI t) (iI on) (iI k) = some (iI (strV ρ x b t on k), s') ∧ fr [] [8, 9, 23] s s' ∧ ar s' 23 28 (strS ρ x b t on k) := by
  have hw1 := hw
  obtain ⟨hC, hRr, hbb, -, -, -, -, -, hir, hbw, -⟩ := hw
  obtain ⟨⟨c1, c2⟩, ⟨c3, c4⟩, ⟨c5, c6⟩, c7, c8⟩ := hx.1 b h1 h2
  have hb3 := (hbw b h1 h2).2.2
  have a4 := ha (4 + b) (by omega) (by omega)
  have a0 := ha b (by omega) (by omega)
  have a8 := ha (8 + b) (by omega) (by omega)
  obtain ⟨u, eu, hf⟩ := m_hotterOf hR hw1 ha hx h1 h2
  have hh := hot_b ρ x b
  have hRu := hR.fr hf rfl rfl
  have hau := hf.ar ha rfl
  have b16 := hau (16 + b) (by omega) (by omega)
  have b12 := hau (12 + b) (by omega) (by omega)
  have hcb := colBy_b hw1 (x b) (x (4 + b)) t k
  have e1 := m_columnBy hR hw1 (c := x b) (r := x (4 + b)) (t := t) (k := k) (by omega) (by omega) (by omega) (by omega) h3 h4 h5 h6
  have hir2 := hir (8 * (x (4 + b) + on) + colBy ρ (x b) (x (4 + b)) t k) (by omega) (by omega)
  have e2 := m_isIron hRu hw1 (c := colBy ρ (x b) (x (4 + b)) t k) (r := x (4 + b) + on) (by omega) (by omega)
  have hbe : u.2.2.1 20 b.toNat = iI (rBB ρ b) := hRu.2.2.2.2.2.2.2.2.2.2.1 b h1 h2
  have n1 : ∀ p q : Int, 0 ≤ p → 0 ≤ q → ¬ p = q → (p.toNat = q.toNat) = False := fun p q h h' h'' => by simp only [eq_iff_iff, iff_false]; omega
  unfold fm_goStroke
  simp (disch := omega) only [iI_lit, iI_add, iI_sub, iI_mul, iI_neg, Option.bind_some, if_true, if_false, Int.reduceEq, Int.reduceLE, Int.reduceLT, Int.reduceAdd, Int.reduceSub, Int.reduceMul, Int.reduceNeg, Nat.reduceEqDiff, ld_i, sto_w, aw_get, aw_1, Nat.reduceEqDiff, false_and, true_and, and_true, Int.reduceToNat, a4, a0, a8, e1, eu, e2]
  generalize hgh : (if x (8 + b) + hot ρ x b ≤ 99 then x (8 + b) + hot ρ x b else 99) = g
  have hg1 : 0 ≤ g ∧ g ≤ 99 := by subst hgh; split <;> omega
  have key : ∀ (w : mS) (y : Int → Int), fr [] [8, 9, 23] s w → ar w 23 28 y → (∀ z, 8 ≤ z → y z = x z) → w.2.2.1 20 = u.2.2.1 20 → ∃ s', fm_goStroke_j85 w (iI b) (iI (x (8 + b) + hot ρ x b)) (iI (rIr ρ (8 * (x (4 + b) + on) + colBy ρ (x b) (x (4 + b)) t k))) = some (iI (strV ρ x b t on k), s') ∧ fr [] [8, 9, 23] s s' ∧ ar s' 23 28 (if g ≤ rBB ρ b then upI (upI y (16 + b) (x (16 + b) + 1)) (8 + b) g else if 999 ≤ x (12 + b) then upI (upI y (16 + b) (x (16 + b) + 1)) (8 + b) 0 else upI (upI (upI y (16 + b) (x (16 + b) + 1)) (8 + b) 0) (12 + b) (x (12 + b) + 1)) := by
    intro w y hfw hay hyx h20
    have d16 := hay (16 + b) (by omega) (by omega)
    have d12 := hay (12 + b) (by omega) (by omega)
    rw [hyx _ (by omega)] at d16 d12
    have hbe' : w.2.2.1 20 b.toNat = iI (rBB ρ b) := by rw [h20]; exact hbe
    have hj : ∀ g', fm_goStroke_j85 w (iI b) (iI (x (8 + b) + hot ρ x b)) g' = fm_goStroke_j112 (aw w 23 (16 + b).toNat (iI (x (16 + b) + 1))) (iI b) g' (iI g) := by
      intro g'
      unfold fm_goStroke_j85
      simp (disch := omega) only [iI_lit, iI_add, iI_sub, iI_mul, iI_neg, Option.bind_some, if_true, if_false, Int.reduceEq, Int.reduceLE, Int.reduceLT, Int.reduceAdd, Int.reduceSub, Int.reduceMul, Int.reduceNeg, Nat.reduceEqDiff, iI_le, iI_lt, iI_eq, ld_i, sto_w, aw_get, aw_1, Nat.reduceEqDiff, false_and, true_and, and_true, Int.reduceToNat, d16]
      subst hgh
      split <;> rfl
    rw [hj]
    have hsv : strV ρ x b t on k = rIr ρ (8 * (x (4 + b) + on) + colBy ρ (x b) (x (4 + b)) t k) + 2 * (if g ≤ rBB ρ b then 0 else 1) := by
      unfold strV
      rw [hgh]
    rw [hsv]
    simp (disch := omega) only [fm_goStroke_j112, fm_goStroke_j130, fm_goStroke_j151, fm_goStroke_j185, m_truth, iI_lit, iI_add, iI_sub, iI_mul, iI_neg, Option.bind_some, if_true, if_false, Int.reduceEq, Int.reduceLE, Int.reduceLT, Int.reduceAdd, Int.reduceSub, Int.reduceMul, Int.reduceNeg, Nat.reduceEqDiff, iI_le, iI_lt, iI_eq, ld_i, sto_w, aw_get, aw_1, Nat.reduceEqDiff, false_and, true_and, and_true, Int.reduceToNat, hbe', n1, d12]
    have q1 := (ar_aw (v := x (16 + b) + 1) hay (z := 16 + b) (by omega))
    have ht : (if rIr ρ (8 * (x (4 + b) + on) + colBy ρ (x b) (x (4 + b)) t k) = 0 then iI 0 else iI 1) = iI (rIr ρ (8 * (x (4 + b) + on) + colBy ρ (x b) (x (4 + b)) t k)) := by
      rcases hir2 with h | h <;> rw [h] <;> rfl
    simp only [ht, iI_add]
    by_cases hg : g ≤ rBB ρ b
    · simp only [if_pos hg]
      exact ⟨_, rfl, (hfw.aw rfl).aw rfl, ar_aw q1 (by omega)⟩
    · simp only [if_neg hg]
      by_cases h9 : 999 ≤ x (12 + b)
      · simp only [if_pos h9]
        exact ⟨_, rfl, (hfw.aw rfl).aw rfl, ar_aw q1 (by omega)⟩
      · simp only [if_neg h9]
        exact ⟨_, rfl, ((hfw.aw rfl).aw rfl).aw rfl, ar_aw (ar_aw q1 (by omega)) (by omega)⟩
  have e3 : strS ρ x b t on k = (if g ≤ rBB ρ b then upI (upI (if rIr ρ (8 * (x (4 + b) + on) + colBy ρ (x b) (x (4 + b)) t k) = 0 then upI (upI x b (colBy ρ (x b) (x (4 + b)) t k)) (4 + b) (x (4 + b) + on) else x) (16 + b) (x (16 + b) + 1)) (8 + b) g else if 999 ≤ x (12 + b) then upI (upI (if rIr ρ (8 * (x (4 + b) + on) + colBy ρ (x b) (x (4 + b)) t k) = 0 then upI (upI x b (colBy ρ (x b) (x (4 + b)) t k)) (4 + b) (x (4 + b) + on) else x) (16 + b) (x (16 + b) + 1)) (8 + b) 0 else upI (upI (upI (if rIr ρ (8 * (x (4 + b) + on) + colBy ρ (x b) (x (4 + b)) t k) = 0 then upI (upI x b (colBy ρ (x b) (x (4 + b)) t k)) (4 + b) (x (4 + b) + on) else x) (16 + b) (x (16 + b) + 1)) (8 + b) 0) (12 + b) (x (12 + b) + 1)) := by
    unfold strS
    simp only [hgh]
  rw [e3]
  have hfu : fr [] [8, 9, 23] s u := hf.mono rfl rfl
  rcases hir2 with h | h
  · have := key (aw (aw u 23 b.toNat (iI (colBy ρ (x b) (x (4 + b)) t k))) 23 (4 + b).toNat (iI (x (4 + b) + on))) (upI (upI x b (colBy ρ (x b) (x (4 + b)) t k)) (4 + b) (x (4 + b) + on)) ((hfu.aw rfl).aw rfl) (ar_aw (ar_aw hau (by omega)) (by omega)) (fun z hz => by unfold upI; rw [if_neg (by omega), if_neg (by omega)]) rfl
    rw [h] at this ⊢
    simp only [if_true] at this ⊢
    exact this
  · have := key u x hfu hau (fun z hz => rfl) rfl
    rw [h] at this ⊢
    rw [if_neg (by decide)]
    simp only [show ¬ (1 : Int) = 0 by omega, if_false] at this ⊢
    exact this
end M4

/-! LAYER 3: rows that fit: the plain laws -/
set_option maxRecDepth 100000
/-- sums -/
def sumN (g : Nat → Int) : Nat → Int
  | 0 => 0
  | k + 1 => sumN g k + g k
theorem sumN_congr {g g' : Nat → Int} (n : Nat) (h : ∀ k, k < n → g k = g' k) : sumN g n = sumN g' n := by
  induction n with
  | zero => rfl
  | succ n ih =>
    simp only [sumN]
    rw [ih (fun k hk => h k (by omega)), h n (by omega)]
theorem sumN_add (g : Nat → Int) (a b : Nat) : sumN g (a + b) = sumN g a + sumN (fun i => g (a + i)) b := by
  induction b with
  | zero => simp [sumN]
  | succ b ih =>
    show sumN g (a + b) + g (a + b) = sumN g a + (sumN (fun i => g (a + i)) b + g (a + b))
    rw [ih]
    omega
theorem sumN_plus (g g' : Nat → Int) (n : Nat) : sumN (fun k => g k + g' k) n = sumN g n + sumN g' n := by
  induction n with
  | zero => rfl
  | succ n ih =>
    simp only [sumN]
    rw [ih]
    omega
theorem sumN_3 (g : Nat → Int) (m : Nat) : sumN g (3 * m) = sumN (fun v => g (3 * v) + g (3 * v + 1) + g (3 * v + 2)) m := by
  induction m with
  | zero => rfl
  | succ m ih =>
    rw [show 3 * (m + 1) = 3 * m + 1 + 1 + 1 by omega]
    simp only [sumN]
    rw [ih]
    omega
theorem sumN_b {g : Nat → Int} {c : Int} (h : ∀ k, 0 ≤ g k ∧ g k ≤ c) (n : Nat) : 0 ≤ sumN g n ∧ sumN g n ≤ c * n := by
  induction n with
  | zero => exact ⟨Int.le_refl _, by simp [sumN]⟩
  | succ n ih =>
    simp only [sumN]
    have := h n
    have e : c * ((n + 1 : Nat) : Int) = c * n + c := by rw [show ((n + 1 : Nat) : Int) = (n : Int) + 1 by omega, Int.mul_add, Int.mul_one]
    omega
/-- a steer ahead of a row -/
def consI (e : Int) (t : Int → Int) : Int → Int := fun z => if z = 0 then e else t (z - 1)
/-- over all rows of n steers -/
def allR : Nat → ((Int → Int) → Int) → Int
  | 0, Φ => Φ (fun _ => 0)
  | n + 1, Φ => allR n (fun t => Φ (consI (-1) t)) + allR n (fun t => Φ (consI 0 t)) + allR n (fun t => Φ (consI 1 t))
/-- the digits, the least first -/
def dgl (v : Int) : Int → Int := fun i => v / 3 ^ i.toNat % 3 - 1
def extR (n : Nat) (Φ : (Int → Int) → Int) : Prop := ∀ t t' : Int → Int, (∀ i : Int, 0 ≤ i → i < n → t i = t' i) → Φ t = Φ t'
theorem extR.cons {n : Nat} {Φ : (Int → Int) → Int} (h : extR (n + 1) Φ) (e : Int) : extR n (fun t => Φ (consI e t)) := by
  intro t t' ht
  refine h _ _ (fun i i1 i2 => ?_)
  unfold consI
  by_cases hi : i = 0
  · rw [if_pos hi, if_pos hi]
  · rw [if_neg hi, if_neg hi]
    exact ht (i - 1) (by omega) (by omega)
theorem dig_cons {n v d i : Int} (hn : 0 ≤ n) (hv : 0 ≤ v) (hv2 : v < p3 n) (hd : 0 ≤ d ∧ d < 3) (hi : 0 ≤ i) (hi2 : i < n + 1) : dig (d * p3 n + v) (n + 1) i = consI (d - 1) (dig v n) i := by
  have hp := p3_pos n
  unfold dig consI
  by_cases h0 : i = 0
  · rw [if_pos h0, h0, show n + 1 - 1 - 0 = n by omega, Int.add_comm, Int.add_mul_ediv_right _ _ (by omega), Int.ediv_eq_zero_of_lt hv hv2]
    omega
  · rw [if_neg h0, show n + 1 - 1 - i = n - 1 - (i - 1) by omega]
    have hq := p3_pos (n - 1 - (i - 1))
    have e : p3 n = p3 (i - 1) * 3 * p3 (n - 1 - (i - 1)) := by
      have h1 : n.toNat = (i - 1).toNat + 1 + (n - 1 - (i - 1)).toNat := by omega
      unfold p3
      rw [h1, Int.pow_add, Int.pow_add]
      simp
    have e3 : ∀ w V : Int, (V + w * 3) % 3 = V % 3 := by intro w V; omega
    rw [e, ← Int.mul_assoc, Int.add_comm, Int.add_mul_ediv_right _ _ (by omega), ← Int.mul_assoc, e3]
theorem msf : ∀ (n : Nat) (Φ : (Int → Int) → Int), extR n Φ → sumN (fun v => Φ (dig v n)) (p3 n).toNat = allR n Φ := by
  intro n
  induction n with
  | zero =>
    intro Φ h
    show 0 + Φ (dig ((0 : Nat) : Int) ((0 : Nat) : Int)) = Φ (fun _ => 0)
    rw [Int.zero_add]
    exact h _ _ (fun i i1 i2 => by omega)
  | succ n ih =>
    intro Φ h
    have hp := p3_pos n
    have e : (p3 ((n + 1 : Nat) : Int)).toNat = (p3 n).toNat + (p3 n).toNat + (p3 n).toNat := by
      rw [show ((n + 1 : Nat) : Int) = (n : Int) + 1 by omega, p3_succ (by omega)]
      omega
    rw [e, sumN_add, sumN_add]
    simp only [allR]
    rw [← ih _ (h.cons (-1)), ← ih _ (h.cons 0), ← ih _ (h.cons 1)]
    have key : ∀ (d : Int) (v : Nat), 0 ≤ d ∧ d < 3 → v < (p3 n).toNat → Φ (dig (d * p3 n + v) ((n + 1 : Nat) : Int)) = Φ (consI (d - 1) (dig v n)) := by
      intro d v hd hv
      refine h _ _ (fun i i1 i2 => ?_)
      rw [show ((n + 1 : Nat) : Int) = (n : Int) + 1 by omega]
      exact dig_cons (by omega) (by omega) (by omega) hd i1 (by omega)
    congr 1
    · congr 1
      · refine sumN_congr _ (fun v hv => ?_)
        have := key 0 v (by omega) hv
        rw [show 0 * p3 n + (v : Int) = v by omega] at this
        exact this
      · refine sumN_congr _ (fun v hv => ?_)
        have := key 1 v (by omega) hv
        rw [show 1 * p3 n + (v : Int) = (((p3 n).toNat + v : Nat) : Int) by omega] at this
        exact this
    · refine sumN_congr _ (fun v hv => ?_)
      have := key 2 v (by omega) hv
      rw [show 2 * p3 n + (v : Int) = (((p3 n).toNat + (p3 n).toNat + v : Nat) : Int) by omega] at this
      exact this
theorem dgl_cons {v d i : Int} (hd : 0 ≤ d ∧ d < 3) (hi : 0 ≤ i) : dgl (3 * v + d) i = consI (d - 1) (dgl v) i := by
  unfold dgl consI
  by_cases h0 : i = 0
  · rw [if_pos h0, h0]
    show (3 * v + d) / 3 ^ 0 % 3 - 1 = _
    rw [Int.pow_zero, Int.ediv_one]
    omega
  · rw [if_neg h0, show i.toNat = 1 + (i - 1).toNat by omega, Int.pow_add, ← Int.ediv_ediv_of_nonneg (by decide), Int.pow_succ, Int.pow_zero, Int.one_mul, show (3 * v + d) / 3 = v by omega]
theorem lsf : ∀ (n : Nat) (Φ : (Int → Int) → Int), extR n Φ → sumN (fun v => Φ (dgl v)) (p3 n).toNat = allR n Φ := by
  intro n
  induction n with
  | zero =>
    intro Φ h
    show 0 + Φ (dgl ((0 : Nat) : Int)) = Φ (fun _ => 0)
    rw [Int.zero_add]
    exact h _ _ (fun i i1 i2 => by omega)
  | succ n ih =>
    intro Φ h
    have hp := p3_pos n
    have e : (p3 ((n + 1 : Nat) : Int)).toNat = 3 * (p3 n).toNat := by
      rw [show ((n + 1 : Nat) : Int) = (n : Int) + 1 by omega, p3_succ (by omega)]
      omega
    rw [e, sumN_3, sumN_plus, sumN_plus]
    simp only [allR]
    rw [← ih _ (h.cons (-1)), ← ih _ (h.cons 0), ← ih _ (h.cons 1)]
    have key : ∀ (d : Int) (v : Nat), 0 ≤ d ∧ d < 3 → Φ (dgl (3 * (v : Int) + d)) = Φ (consI (d - 1) (dgl v)) := fun d v hd => h _ _ (fun i i1 _ => dgl_cons hd i1)
    congr 1
    · congr 1
      · refine sumN_congr _ (fun v _ => ?_)
        have := key 0 v (by omega)
        rw [show 3 * (v : Int) + 0 = ((3 * v : Nat) : Int) by omega] at this
        exact this
      · refine sumN_congr _ (fun v _ => ?_)
        have := key 1 v (by omega)
        rw [show 3 * (v : Int) + 1 = ((3 * v + 1 : Nat) : Int) by omega] at this
        exact this
    · refine sumN_congr _ (fun v _ => ?_)
      have := key 2 v (by omega)
      rw [show 3 * (v : Int) + 2 = ((3 * v + 2 : Nat) : Int) by omega] at this
      exact this
/-- a row gone from the start: the state behind k strokes (it goes on where it hisses) -/
def ftR (ρ : Rv) (x : Int → Int) (t : Int → Int) : Nat → Int → Int
  | 0 => x
  | k + 1 => strS ρ (ftR ρ x t k) 0 (t k) 1 1
/-- the same, of the first board -/
def agr (ρ : Rv) (x x' : Int → Int) : Prop := x 0 = x' 0 ∧ x 4 = x' 4 ∧ x 8 = x' 8 ∧ x 12 = x' 12 ∧ x 16 = x' 16 ∧ ∀ l, 0 ≤ l → l < rL ρ → x (20 + l) = x' (20 + l)
theorem agr_burd {ρ : Rv} {x x' : Int → Int} (hw : wfR ρ) (h : agr ρ x x') (b : Int) : burd ρ x b = burd ρ x' b := by
  have hl := hw.2.2.2.1
  unfold burd
  have : ∀ n : Nat, (n : Int) ≤ rL ρ → sumW ρ x b n = sumW ρ x' b n := by
    intro n
    induction n with
    | zero => intro _; rfl
    | succ n ih =>
      intro hn
      simp only [sumW]
      rw [ih (by omega), h.2.2.2.2.2 n (by omega) (by omega)]
  exact this _ (by omega)
theorem agr_hot {ρ : Rv} {x x' : Int → Int} (hw : wfR ρ) (h : agr ρ x x') : hot ρ x 0 = hot ρ x' 0 := by
  have e : (fun k => iI (askI ρ x 0 k)) = fun k => iI (askI ρ x' 0 k) := by
    funext k
    congr 1
    unfold askI
    have hb := agr_burd hw h 0
    obtain ⟨h0, h4, h8, h12, h16, -⟩ := h
    match k with
    | 0 => exact h4
    | 1 => exact h0
    | 2 => exact hb
    | 3 => rfl
    | 4 => exact h16
    | 5 => exact h8
    | _ + 6 => first | rfl | exact h8
  unfold hot
  rw [e]
theorem agr_str {ρ : Rv} {x x' : Int → Int} (hw : wfR ρ) (h : agr ρ x x') (t on k : Int) : agr ρ (strS ρ x 0 t on k) (strS ρ x' 0 t on k) := by
  have hh := agr_hot hw h
  obtain ⟨h0, h4, h8, h12, h16, hl⟩ := h
  have eG : strG ρ x 0 = strG ρ x' 0 := by
    unfold strG
    rw [show (8 : Int) + 0 = 8 from rfl, h8, hh]
  have eH : strH ρ x 0 t on k = strH ρ x' 0 t on k := by
    unfold strH
    rw [show (4 : Int) + 0 = 4 from rfl, h4, h0]
  have pt : ∀ z, strS ρ x 0 t on k z = if z = 0 then (if strH ρ x 0 t on k = 0 then colBy ρ (x 0) (x 4) t k else x 0) else if z = 4 then (if strH ρ x 0 t on k = 0 then x 4 + on else x 4) else if z = 8 then (if strG ρ x 0 ≤ rBB ρ 0 then strG ρ x 0 else 0) else if z = 12 then (if strG ρ x 0 ≤ rBB ρ 0 then x 12 else if 999 ≤ x 12 then x 12 else x 12 + 1) else if z = 16 then x 16 + 1 else x z := fun z => str_pt z (by omega) (by omega)
  have pt' : ∀ z, strS ρ x' 0 t on k z = if z = 0 then (if strH ρ x' 0 t on k = 0 then colBy ρ (x' 0) (x' 4) t k else x' 0) else if z = 4 then (if strH ρ x' 0 t on k = 0 then x' 4 + on else x' 4) else if z = 8 then (if strG ρ x' 0 ≤ rBB ρ 0 then strG ρ x' 0 else 0) else if z = 12 then (if strG ρ x' 0 ≤ rBB ρ 0 then x' 12 else if 999 ≤ x' 12 then x' 12 else x' 12 + 1) else if z = 16 then x' 16 + 1 else x' z := fun z => str_pt z (by omega) (by omega)
  have all : ∀ z, (z = 0 ∨ z = 4 ∨ z = 8 ∨ z = 12 ∨ z = 16 ∨ x z = x' z) → strS ρ x 0 t on k z = strS ρ x' 0 t on k z := by
    intro z hz
    rw [pt, pt', eG, eH, h0, h4, h12, h16]
    repeat' split
    all_goals first | rfl | (rcases hz with k | k | k | k | k | k <;> first | omega | exact k)
  exact ⟨all 0 (by omega), all 4 (by omega), all 8 (by omega), all 12 (by omega), all 16 (by omega), fun l l1 l2 => all (20 + l) (by right; right; right; right; right; exact hl l l1 l2)⟩
theorem agr_ft {ρ : Rv} {x x' : Int → Int} (hw : wfR ρ) (h : agr ρ x x') (t : Int → Int) (k : Nat) : agr ρ (ftR ρ x t k) (ftR ρ x' t k) := by
  induction k with
  | zero => exact h
  | succ k ih => exact agr_str hw ih _ _ _
theorem ft_ext {ρ : Rv} {x : Int → Int} {t t' : Int → Int} (k : Nat) (h : ∀ i : Int, 0 ≤ i → i < k → t i = t' i) : ftR ρ x t k = ftR ρ x t' k := by
  induction k with
  | zero => rfl
  | succ k ih =>
    simp only [ftR]
    rw [ih (fun i i1 i2 => h i i1 (by omega)), h k (by omega) (by omega)]

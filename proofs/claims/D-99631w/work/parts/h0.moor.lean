/-! LAYER 3: mooring: the law -/
set_option maxRecDepth 100000
theorem orb_tab8 : ∀ S : Fin 256, ∀ b c : Fin 8, bit (orb S.val b.val) c.val = (if c.val = b.val then 1 else bit S.val c.val) := by decide +kernel
theorem orb8 {S b : Int} (h1 : 0 ≤ S) (h2 : S < 256) (h3 : 0 ≤ b) (h4 : b < 8) : ∀ c, 0 ≤ c → c < 8 → bit (orb S b) c = if c = b then 1 else bit S c := by
  intro c c1 c2
  obtain ⟨n, rfl⟩ : ∃ n : Nat, S = n := ⟨S.toNat, by omega⟩
  obtain ⟨m, rfl⟩ : ∃ n : Nat, b = n := ⟨b.toNat, by omega⟩
  obtain ⟨k, rfl⟩ : ∃ n : Nat, c = n := ⟨c.toNat, by omega⟩
  have := orb_tab8 ⟨n, by omega⟩ ⟨m, by omega⟩ ⟨k, by omega⟩
  simp only at this
  rw [this]
  by_cases h : k = m
  · rw [if_pos h, if_pos (by omega)]
  · rw [if_neg h, if_neg (by omega)]
/-- where board b may land, from the near bank alone -/
def mooS (ρ : Rv) (x : Int → Int) (b : Int) : Int := if x (4 + b) = 0 then landS ρ x b else 0
def usM (D : Int → Int) : Nat → Int
  | 0 => 0
  | j + 1 => if D j = 8 then usM D j else orb (usM D j) (D j)
def mnM (D : Int → Int) : Nat → Int
  | 0 => 0
  | j + 1 => mnM D j + if D j = 8 then 0 else 1
def btM (x D : Int → Int) : Nat → Int
  | 0 => 0
  | j + 1 => btM x D j + if D j = 8 then 0 else absI (D j - x j)
def okM (ρ : Rv) (x D : Int → Int) : Nat → Int
  | 0 => 1
  | j + 1 => if okM ρ x D j = 1 ∧ (D j = 8 ∨ (bit (mooS ρ x j) (D j) = 1 ∧ bit (usM D j) (D j) = 0)) then 1 else 0
abbrev AcM : Type := Int × Int × (Int → Int)
def rwM (D : Int → Int) : Int → Int := fun k => if D k = 8 then -1 else D k
def upM (ρ : Rv) (x D : Int → Int) (a : AcM) : AcM := if okM ρ x D (rB ρ).toNat = 1 ∧ (a.1 < mnM D (rB ρ).toNat ∨ (mnM D (rB ρ).toNat = a.1 ∧ btM x D (rB ρ).toNat < a.2.1)) then (mnM D (rB ρ).toNat, btM x D (rB ρ).toNat, fun k => if 0 ≤ k ∧ k < rB ρ then rwM D k else 0) else a
def d9 (D : Int → Int) : Prop := ∀ i, 0 ≤ D i ∧ D i < 9
section H0
variable {ρ : Rv} {x D D' : Int → Int}
theorem okM_ext (n : Nat) (h : ∀ i : Int, 0 ≤ i → i < n → D i = D' i) : usM D n = usM D' n ∧ mnM D n = mnM D' n ∧ btM x D n = btM x D' n ∧ okM ρ x D n = okM ρ x D' n := by
  induction n with
  | zero => exact ⟨rfl, rfl, rfl, rfl⟩
  | succ n ih =>
    obtain ⟨h1, h2, h3, h4⟩ := ih (fun i i1 i2 => h i i1 (by omega))
    have e := h n (by omega) (by omega)
    simp only [usM, mnM, btM, okM]
    rw [h1, h2, h3, h4, e]
    exact ⟨rfl, rfl, rfl, rfl⟩
theorem upM_ext (hw : wfR ρ) (x : Int → Int) : extA (rB ρ).toNat (upM ρ x) := by
  have hB := hw.2.2.1
  intro t t' ht
  obtain ⟨h1, h2, h3, h4⟩ := okM_ext (ρ := ρ) (x := x) (rB ρ).toNat ht
  have hr : (fun k => if 0 ≤ k ∧ k < rB ρ then rwM t k else 0) = (fun k => if 0 ≤ k ∧ k < rB ρ then rwM t' k else 0) := by
    funext k
    by_cases hk : 0 ≤ k ∧ k < rB ρ
    · rw [if_pos hk, if_pos hk]
      unfold rwM
      rw [ht k hk.1 (by omega)]
    · rw [if_neg hk, if_neg hk]
  funext a
  unfold upM
  rw [h2, h3, h4, hr]
theorem usM_b (hD : d9 D) (j : Nat) : 0 ≤ usM D j ∧ usM D j < 256 := by
  induction j with
  | zero => exact (by decide : (0 : Int) ≤ 0 ∧ (0 : Int) < 256)
  | succ j ih =>
    have := hD j
    simp only [usM]
    by_cases h : D j = 8
    · rw [if_pos h]; exact ih
    · rw [if_neg h]
      exact (orb_i (S := usM D j) (l := D j) (by omega) (by omega) ih.1 ih.2).2
theorem usM_bit (hD : d9 D) {c : Int} (h1 : 0 ≤ c) (h2 : c < 8) (j : Nat) : bit (usM D j) c = 1 ↔ ∃ i : Nat, i < j ∧ D i = c := by
  induction j with
  | zero =>
    constructor
    · intro z
      have : bit 0 c = 0 := by unfold bit; simp
      simp only [usM] at z
      omega
    · rintro ⟨i, i1, -⟩; omega
  | succ j ih =>
    have hd := hD j
    have hb := usM_b hD j
    simp only [usM]
    by_cases h : D j = 8
    · rw [if_pos h, ih]
      constructor
      · rintro ⟨i, i1, i2⟩; exact ⟨i, by omega, i2⟩
      · rintro ⟨i, i1, i2⟩
        by_cases hi : i = j
        · subst hi; omega
        · exact ⟨i, by omega, i2⟩
    · rw [if_neg h, orb8 hb.1 hb.2 (by omega) (by omega) c h1 h2]
      by_cases hc : c = D j
      · rw [if_pos hc]
        exact ⟨fun _ => ⟨j, by omega, hc.symm⟩, fun _ => rfl⟩
      · rw [if_neg hc, ih]
        constructor
        · rintro ⟨i, i1, i2⟩; exact ⟨i, by omega, i2⟩
        · rintro ⟨i, i1, i2⟩
          by_cases hi : i = j
          · subst hi; omega
          · exact ⟨i, by omega, i2⟩
theorem mnM_b (D : Int → Int) (j : Nat) : 0 ≤ mnM D j ∧ mnM D j ≤ j := by
  induction j with
  | zero => exact (by decide : (0 : Int) ≤ 0 ∧ (0 : Int) ≤ 0)
  | succ j ih =>
    simp only [mnM]
    split <;> omega
theorem btM_b (hw : wfR ρ) (hx : wfS ρ x) (hD : d9 D) (j : Nat) (hj : (j : Int) ≤ rB ρ) : 0 ≤ btM x D j ∧ btM x D j ≤ 16 * j := by
  induction j with
  | zero => exact (by decide : (0 : Int) ≤ 0 ∧ (0 : Int) ≤ 16 * 0)
  | succ j ih =>
    have ih := ih (by omega)
    have hd := hD j
    have hxj := hx.1 j (by omega) (by omega)
    have hC := hw.1
    simp only [btM, absI]
    split
    · omega
    · split <;> omega
theorem okM_01 (j : Nat) : okM ρ x D j = 0 ∨ okM ρ x D j = 1 := by
  cases j with
  | zero => exact Or.inr rfl
  | succ j =>
    simp only [okM]
    split
    · exact Or.inr rfl
    · exact Or.inl rfl
theorem okM_stop {j : Nat} (h : okM ρ x D j = 0) (k : Nat) : okM ρ x D (j + k) = 0 := by
  induction k with
  | zero => exact h
  | succ k ih =>
    show okM ρ x D ((j + k) + 1) = 0
    simp only [okM]
    rw [if_neg]
    rintro ⟨z, -⟩
    omega
/-- the same from either end -/
theorem okM_iff (hD : d9 D) (n : Nat) : okM ρ x D n = 1 ↔ ∀ i : Nat, i < n → (D i = 8 ∨ (bit (mooS ρ x i) (D i) = 1 ∧ ∀ k : Nat, k < i → ¬ D k = D i)) := by
  induction n with
  | zero => exact ⟨fun _ i hi => by omega, fun _ => rfl⟩
  | succ n ih =>
    have hd := hD n
    simp only [okM]
    constructor
    · intro h
      by_cases hc : okM ρ x D n = 1 ∧ (D n = 8 ∨ (bit (mooS ρ x n) (D n) = 1 ∧ bit (usM D n) (D n) = 0))
      · intro i hi
        by_cases hin : i = n
        · subst hin
          rcases hc.2 with z | ⟨z1, z2⟩
          · exact Or.inl z
          · by_cases h8 : D i = 8
            · exact Or.inl h8
            · refine Or.inr ⟨z1, fun k hk hq => ?_⟩
              have := (usM_bit hD (c := D i) hd.1 (by omega) i).mpr ⟨k, hk, hq⟩
              omega
        · exact ih.mp hc.1 i (by omega)
      · rw [if_neg hc] at h
        omega
    · intro h
      rw [if_pos]
      refine ⟨ih.mpr (fun i hi => h i (by omega)), ?_⟩
      by_cases h8 : D n = 8
      · exact Or.inl h8
      · rcases h n (by omega) with z | ⟨z1, z2⟩
        · exact absurd z h8
        · refine Or.inr ⟨z1, ?_⟩
          rcases bit_01 (usM D n) (D n) with w | w
          · exact w
          · obtain ⟨i, i1, i2⟩ := (usM_bit hD hd.1 (by omega) n).mp w
            exact absurd i2 (z2 i i1)
/-- no landing beyond the columns -/
theorem landN_off (hw : wfR ρ) (hx : wfS ρ x) {b : Int} (h1 : 0 ≤ b) (h2 : b < rB ρ) {c : Int} (c1 : rC ρ ≤ c) (c2 : c < 8) (k : Nat) : (0 ≤ landN ρ x b k ∧ landN ρ x b k < 256) ∧ bit (landN ρ x b k) c = 0 := by
  have hC := hw.1
  induction k with
  | zero => exact ⟨(by decide : (0 : Int) ≤ 0 ∧ (0 : Int) < 256), by show bit 0 c = 0; unfold bit; simp⟩
  | succ k ih =>
    have hr := (rowE_wf (v := k) hw hx h1 h2).1.1 b h1 h2
    simp only [landN]
    split
    · exact ih
    · refine ⟨(orb_i (S := landN ρ x b k) (by omega) (by omega) ih.1.1 ih.1.2).2, ?_⟩
      rw [orb8 ih.1.1 ih.1.2 (by omega) (by omega) c (by omega) c2, if_neg (by omega)]
      exact ih.2
theorem mooS_off (hw : wfR ρ) (hx : wfS ρ x) {b : Int} (h1 : 0 ≤ b) (h2 : b < rB ρ) {c : Int} (c1 : rC ρ ≤ c) (c2 : c < 8) : bit (mooS ρ x b) c = 0 := by
  unfold mooS
  split
  · exact (landN_off hw hx h1 h2 c1 c2 _).2
  · unfold bit; simp
theorem upM_le (D : Int → Int) (a : AcM) : a.1 ≤ (upM ρ x D a).1 := by
  unfold upM
  by_cases h : okM ρ x D (rB ρ).toNat = 1 ∧ (a.1 < mnM D (rB ρ).toNat ∨ (mnM D (rB ρ).toNat = a.1 ∧ btM x D (rB ρ).toNat < a.2.1))
  · rw [if_pos h]
    show a.1 ≤ mnM D (rB ρ).toNat
    omega
  · rw [if_neg h]
    exact Int.le_refl _
end H0

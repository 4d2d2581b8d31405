/-! LAYER 3: bits; the model's strokes -/
set_option maxRecDepth 100000
theorem i0 : (0 : Int32) = iI 0 := iI_lit 0
theorem i1 : (1 : Int32) = iI 1 := iI_lit 1
theorem bool_i (p : Prop) [Decidable p] : (if p then (1 : Int32) else 0) = iI (if p then 1 else 0) := by split <;> rfl
/-! small sets as numbers -/
theorem or_tab : ∀ l : Fin 8, ∀ S : Fin 256, S.val < 2 ^ l.val → iI S.val ||| (iI 1 <<< (iI l.val &&& iI 31)) = iI (S.val + 2 ^ l.val) := by decide +kernel
theorem bit_tab : ∀ l : Fin 8, ∀ S : Fin 256, (iI S.val >>> (iI l.val &&& iI 31)) &&& iI 1 = iI (S.val / 2 ^ l.val % 2 : Nat) := by decide +kernel
theorem shl_tab : ∀ l : Fin 31, iI 1 <<< (iI l.val &&& iI 31) = iI (2 ^ l.val : Nat) := by decide +kernel
def pw (z : Int) : Int := 2 ^ z.toNat
def bit (S z : Int) : Int := S / pw z % 2
theorem pw_nat (n : Nat) : pw n = ((2 ^ n : Nat) : Int) := by simp [pw]
theorem or_i {S l : Int} (h1 : 0 ≤ l) (h2 : l < 8) (h3 : 0 ≤ S) (h4 : S < pw l) : iI S ||| (iI 1 <<< (iI l &&& iI 31)) = iI (S + pw l) := by
  obtain ⟨n, rfl⟩ : ∃ n : Nat, l = n := ⟨l.toNat, by omega⟩
  obtain ⟨m, rfl⟩ : ∃ m : Nat, S = m := ⟨S.toNat, by omega⟩
  rw [pw_nat] at h4 ⊢
  have hn : n < 8 := by omega
  have hm : m < 2 ^ n := by exact_mod_cast h4
  have : 2 ^ n ≤ 2 ^ 7 := Nat.pow_le_pow_right (by omega) (by omega)
  have := or_tab ⟨n, hn⟩ ⟨m, by omega⟩ hm
  simpa using this
theorem bit_i {S l : Int} (h1 : 0 ≤ l) (h2 : l < 8) (h3 : 0 ≤ S) (h4 : S < 256) : (iI S >>> (iI l &&& iI 31)) &&& iI 1 = iI (bit S l) := by
  obtain ⟨n, rfl⟩ : ∃ n : Nat, l = n := ⟨l.toNat, by omega⟩
  obtain ⟨m, rfl⟩ : ∃ m : Nat, S = m := ⟨S.toNat, by omega⟩
  have := bit_tab ⟨n, by omega⟩ ⟨m, by omega⟩
  rw [show bit (m : Int) (n : Int) = ((m / 2 ^ n % 2 : Nat) : Int) by simp [bit, pw]]
  exact this
theorem shl_i {l : Int} (h1 : 0 ≤ l) (h2 : l < 31) : iI 1 <<< (iI l &&& iI 31) = iI (pw l) := by
  obtain ⟨n, rfl⟩ : ∃ n : Nat, l = n := ⟨l.toNat, by omega⟩
  rw [pw_nat]
  exact shl_tab ⟨n, by omega⟩
theorem bit_01 (S z : Int) : bit S z = 0 ∨ bit S z = 1 := by unfold bit; omega
theorem or_zero (x : Int32) : x ||| iI 0 = x := by rw [← i0]; exact Int32.or_zero
theorem zero_shl (z : Int32) : iI 0 <<< z = iI 0 := by rw [← i0]; exact Int32.zero_shiftLeft
/-- the set of those below n that have P -/
def setP (P : Int → Bool) : Nat → Int
  | 0 => 0
  | n + 1 => setP P n + (if P n = true then pw n else 0)
theorem pw_pos (z : Int) : 0 < pw z := Int.pow_pos (by omega)
theorem pw_succ (n : Nat) : pw ((n : Int) + 1) = 2 * pw n := by
  have : ((n : Int) + 1).toNat = n + 1 := by omega
  simp only [pw, this, Int.toNat_natCast]
  rw [Int.pow_succ]
  omega
theorem setP_b (P : Int → Bool) : ∀ n : Nat, 0 ≤ setP P n ∧ setP P n < pw n := by
  intro n
  induction n with
  | zero => exact ⟨Int.le_refl _, pw_pos _⟩
  | succ n ih =>
    have h := pw_succ n
    have h0 := pw_pos n
    have e : ((n + 1 : Nat) : Int) = (n : Int) + 1 := by omega
    rw [e, h]
    simp only [setP]
    split <;> omega
theorem pw7 {n : Nat} (h : n ≤ 8) : pw n ≤ 256 := by
  rw [pw_nat]
  have : 2 ^ n ≤ 2 ^ 8 := Nat.pow_le_pow_right (by omega) h
  omega
theorem setP_congr {P Q : Int → Bool} : ∀ n : Nat, (∀ k : Nat, k < n → P k = Q k) → setP P n = setP Q n := by
  intro n
  induction n with
  | zero => intro _; rfl
  | succ n ih =>
    intro h
    simp only [setP]
    rw [ih (fun k hk => h k (by omega)), h n (by omega)]
theorem setP_bit (P : Int → Bool) : ∀ (n : Nat) (k : Nat), k < n → bit (setP P n) k = if P k = true then 1 else 0 := by
  intro n
  induction n with
  | zero => intro k hk; omega
  | succ n ih =>
    intro k hk
    have hb := setP_b P n
    simp only [setP]
    by_cases h : k = n
    · subst h
      unfold bit
      split
      · rw [Int.add_ediv_of_dvd_right (Int.dvd_refl _), Int.ediv_eq_zero_of_lt hb.1 hb.2, Int.ediv_self (by have := pw_pos k; omega)]
        rfl
      · rw [Int.add_zero, Int.ediv_eq_zero_of_lt hb.1 hb.2]
        rfl
    · have hk' : k < n := by omega
      rw [← ih k hk']
      split
      · obtain ⟨m, rfl⟩ : ∃ m, n = k + 1 + m := ⟨n - k - 1, by omega⟩
        have e : pw ((k + 1 + m : Nat) : Int) = pw k * (2 * pw m) := by
          rw [pw_nat, pw_nat, pw_nat]
          rw [show 2 ^ (k + 1 + m) = 2 ^ k * (2 * 2 ^ m) by rw [Nat.pow_add, Nat.pow_add]; simp [Nat.mul_assoc]]
          push_cast
          rfl
        unfold bit
        rw [e, Int.add_mul_ediv_left _ _ (by have := pw_pos k; omega)]
        omega
      · rw [Int.add_zero]
/-! what a sign does -/
def doneF (c x y : Int32) : Int32 := if c = 37 then (if y = 0 then 0 else x - x / y * y) else if c = 38 then (if x = 0 ∨ y = 0 then 0 else 1) else if c = 42 then x * y else if c = 43 then x + y else if c = 45 then x - y else if c = 47 then (if y = 0 then 0 else x / y) else if c = 60 then (if y ≤ x then 0 else 1) else if c = 61 then (if x = y then 1 else 0) else if c = 62 then (if x ≤ y then 0 else 1) else (if x = 0 ∧ y = 0 then 0 else 1)
theorem m_done (c x y : Int32) : fm_done c x y = some (doneF c x y) := by
  unfold fm_done doneF
  simp only [m_truth, Option.bind_some, if_true, show ¬ (1 : Int32) = 0 from by decide, if_false, dv, rm]
  by_cases h37 : c = 37
  · subst h37
    simp only [show ¬ (37 : Int32) = 38 from by decide, show ¬ (37 : Int32) = 42 from by decide, show ¬ (37 : Int32) = 43 from by decide, show ¬ (37 : Int32) = 45 from by decide, show ¬ (37 : Int32) = 47 from by decide, show ¬ (37 : Int32) = 60 from by decide, show ¬ (37 : Int32) = 61 from by decide, show ¬ (37 : Int32) = 62 from by decide, if_true, if_false]
    repeat' (first | rfl | (simp_all; done) | split)
  by_cases h38 : c = 38
  · subst h38
    simp only [show ¬ (38 : Int32) = 37 from by decide, show ¬ (38 : Int32) = 42 from by decide, show ¬ (38 : Int32) = 43 from by decide, show ¬ (38 : Int32) = 45 from by decide, show ¬ (38 : Int32) = 47 from by decide, show ¬ (38 : Int32) = 60 from by decide, show ¬ (38 : Int32) = 61 from by decide, show ¬ (38 : Int32) = 62 from by decide, if_true, if_false]
    repeat' (first | rfl | (simp_all; done) | split)
  by_cases h39 : c = 39
  · subst h39
    simp only [show ¬ (39 : Int32) = 37 from by decide, show ¬ (39 : Int32) = 38 from by decide, show ¬ (39 : Int32) = 42 from by decide, show ¬ (39 : Int32) = 43 from by decide, show ¬ (39 : Int32) = 45 from by decide, show ¬ (39 : Int32) = 47 from by decide, show ¬ (39 : Int32) = 60 from by decide, show ¬ (39 : Int32) = 61 from by decide, show ¬ (39 : Int32) = 62 from by decide, if_true, if_false]
    repeat' (first | rfl | (simp_all; done) | split)
  by_cases h40 : c = 40
  · subst h40
    simp only [show ¬ (40 : Int32) = 37 from by decide, show ¬ (40 : Int32) = 38 from by decide, show ¬ (40 : Int32) = 39 from by decide, show ¬ (40 : Int32) = 42 from by decide, show ¬ (40 : Int32) = 43 from by decide, show ¬ (40 : Int32) = 45 from by decide, show ¬ (40 : Int32) = 47 from by decide, show ¬ (40 : Int32) = 60 from by decide, show ¬ (40 : Int32) = 61 from by decide, show ¬ (40 : Int32) = 62 from by decide, if_true, if_false]
    repeat' (first | rfl | (simp_all; done) | split)
  by_cases h41 : c = 41
  · subst h41
    simp only [show ¬ (41 : Int32) = 37 from by decide, show ¬ (41 : Int32) = 38 from by decide, show ¬ (41 : Int32) = 39 from by decide, show ¬ (41 : Int32) = 40 from by decide, show ¬ (41 : Int32) = 42 from by decide, show ¬ (41 : Int32) = 43 from by decide, show ¬ (41 : Int32) = 45 from by decide, show ¬ (41 : Int32) = 47 from by decide, show ¬ (41 : Int32) = 60 from by decide, show ¬ (41 : Int32) = 61 from by decide, show ¬ (41 : Int32) = 62 from by decide, if_true, if_false]
    repeat' (first | rfl | (simp_all; done) | split)
  by_cases h42 : c = 42
  · subst h42
    simp only [show ¬ (42 : Int32) = 37 from by decide, show ¬ (42 : Int32) = 38 from by decide, show ¬ (42 : Int32) = 39 from by decide, show ¬ (42 : Int32) = 40 from by decide, show ¬ (42 : Int32) = 41 from by decide, show ¬ (42 : Int32) = 43 from by decide, show ¬ (42 : Int32) = 45 from by decide, show ¬ (42 : Int32) = 47 from by decide, show ¬ (42 : Int32) = 60 from by decide, show ¬ (42 : Int32) = 61 from by decide, show ¬ (42 : Int32) = 62 from by decide, if_true, if_false]
    repeat' (first | rfl | (simp_all; done) | split)
  by_cases h43 : c = 43
  · subst h43
    simp only [show ¬ (43 : Int32) = 37 from by decide, show ¬ (43 : Int32) = 38 from by decide, show ¬ (43 : Int32) = 39 from by decide, show ¬ (43 : Int32) = 40 from by decide, show ¬ (43 : Int32) = 41 from by decide, show ¬ (43 : Int32) = 42 from by decide, show ¬ (43 : Int32) = 45 from by decide, show ¬ (43 : Int32) = 47 from by decide, show ¬ (43 : Int32) = 60 from by decide, show ¬ (43 : Int32) = 61 from by decide, show ¬ (43 : Int32) = 62 from by decide, if_true, if_false]
    repeat' (first | rfl | (simp_all; done) | split)
  by_cases h44 : c = 44
  · subst h44
    simp only [show ¬ (44 : Int32) = 37 from by decide, show ¬ (44 : Int32) = 38 from by decide, show ¬ (44 : Int32) = 39 from by decide, show ¬ (44 : Int32) = 40 from by decide, show ¬ (44 : Int32) = 41 from by decide, show ¬ (44 : Int32) = 42 from by decide, show ¬ (44 : Int32) = 43 from by decide, show ¬ (44 : Int32) = 45 from by decide, show ¬ (44 : Int32) = 47 from by decide, show ¬ (44 : Int32) = 60 from by decide, show ¬ (44 : Int32) = 61 from by decide, show ¬ (44 : Int32) = 62 from by decide, if_true, if_false]
    repeat' (first | rfl | (simp_all; done) | split)
  by_cases h45 : c = 45
  · subst h45
    simp only [show ¬ (45 : Int32) = 37 from by decide, show ¬ (45 : Int32) = 38 from by decide, show ¬ (45 : Int32) = 39 from by decide, show ¬ (45 : Int32) = 40 from by decide, show ¬ (45 : Int32) = 41 from by decide, show ¬ (45 : Int32) = 42 from by decide, show ¬ (45 : Int32) = 43 from by decide, show ¬ (45 : Int32) = 44 from by decide, show ¬ (45 : Int32) = 47 from by decide, show ¬ (45 : Int32) = 60 from by decide, show ¬ (45 : Int32) = 61 from by decide, show ¬ (45 : Int32) = 62 from by decide, if_true, if_false]
    repeat' (first | rfl | (simp_all; done) | split)
  by_cases h46 : c = 46
  · subst h46
    simp only [show ¬ (46 : Int32) = 37 from by decide, show ¬ (46 : Int32) = 38 from by decide, show ¬ (46 : Int32) = 39 from by decide, show ¬ (46 : Int32) = 40 from by decide, show ¬ (46 : Int32) = 41 from by decide, show ¬ (46 : Int32) = 42 from by decide, show ¬ (46 : Int32) = 43 from by decide, show ¬ (46 : Int32) = 44 from by decide, show ¬ (46 : Int32) = 45 from by decide, show ¬ (46 : Int32) = 47 from by decide, show ¬ (46 : Int32) = 60 from by decide, show ¬ (46 : Int32) = 61 from by decide, show ¬ (46 : Int32) = 62 from by decide, if_true, if_false]
    repeat' (first | rfl | (simp_all; done) | split)
  by_cases h47 : c = 47
  · subst h47
    simp only [show ¬ (47 : Int32) = 37 from by decide, show ¬ (47 : Int32) = 38 from by decide, show ¬ (47 : Int32) = 39 from by decide, show ¬ (47 : Int32) = 40 from by decide, show ¬ (47 : Int32) = 41 from by decide, show ¬ (47 : Int32) = 42 from by decide, show ¬ (47 : Int32) = 43 from by decide, show ¬ (47 : Int32) = 44 from by decide, show ¬ (47 : Int32) = 45 from by decide, show ¬ (47 : Int32) = 46 from by decide, show ¬ (47 : Int32) = 60 from by decide, show ¬ (47 : Int32) = 61 from by decide, show ¬ (47 : Int32) = 62 from by decide, if_true, if_false]
    repeat' (first | rfl | (simp_all; done) | split)
  by_cases h48 : c = 48
  · subst h48
    simp only [show ¬ (48 : Int32) = 37 from by decide, show ¬ (48 : Int32) = 38 from by decide, show ¬ (48 : Int32) = 39 from by decide, show ¬ (48 : Int32) = 40 from by decide, show ¬ (48 : Int32) = 41 from by decide, show ¬ (48 : Int32) = 42 from by decide, show ¬ (48 : Int32) = 43 from by decide, show ¬ (48 : Int32) = 44 from by decide, show ¬ (48 : Int32) = 45 from by decide, show ¬ (48 : Int32) = 46 from by decide, show ¬ (48 : Int32) = 47 from by decide, show ¬ (48 : Int32) = 60 from by decide, show ¬ (48 : Int32) = 61 from by decide, show ¬ (48 : Int32) = 62 from by decide, if_true, if_false]
    repeat' (first | rfl | (simp_all; done) | split)
  by_cases h49 : c = 49
  · subst h49
    simp only [show ¬ (49 : Int32) = 37 from by decide, show ¬ (49 : Int32) = 38 from by decide, show ¬ (49 : Int32) = 39 from by decide, show ¬ (49 : Int32) = 40 from by decide, show ¬ (49 : Int32) = 41 from by decide, show ¬ (49 : Int32) = 42 from by decide, show ¬ (49 : Int32) = 43 from by decide, show ¬ (49 : Int32) = 44 from by decide, show ¬ (49 : Int32) = 45 from by decide, show ¬ (49 : Int32) = 46 from by decide, show ¬ (49 : Int32) = 47 from by decide, show ¬ (49 : Int32) = 48 from by decide, show ¬ (49 : Int32) = 60 from by decide, show ¬ (49 : Int32) = 61 from by decide, show ¬ (49 : Int32) = 62 from by decide, if_true, if_false]
    repeat' (first | rfl | (simp_all; done) | split)
  by_cases h50 : c = 50
  · subst h50
    simp only [show ¬ (50 : Int32) = 37 from by decide, show ¬ (50 : Int32) = 38 from by decide, show ¬ (50 : Int32) = 39 from by decide, show ¬ (50 : Int32) = 40 from by decide, show ¬ (50 : Int32) = 41 from by decide, show ¬ (50 : Int32) = 42 from by decide, show ¬ (50 : Int32) = 43 from by decide, show ¬ (50 : Int32) = 44 from by decide, show ¬ (50 : Int32) = 45 from by decide, show ¬ (50 : Int32) = 46 from by decide, show ¬ (50 : Int32) = 47 from by decide, show ¬ (50 : Int32) = 48 from by decide, show ¬ (50 : Int32) = 49 from by decide, show ¬ (50 : Int32) = 60 from by decide, show ¬ (50 : Int32) = 61 from by decide, show ¬ (50 : Int32) = 62 from by decide, if_true, if_false]
    repeat' (first | rfl | (simp_all; done) | split)
  by_cases h51 : c = 51
  · subst h51
    simp only [show ¬ (51 : Int32) = 37 from by decide, show ¬ (51 : Int32) = 38 from by decide, show ¬ (51 : Int32) = 39 from by decide, show ¬ (51 : Int32) = 40 from by decide, show ¬ (51 : Int32) = 41 from by decide, show ¬ (51 : Int32) = 42 from by decide, show ¬ (51 : Int32) = 43 from by decide, show ¬ (51 : Int32) = 44 from by decide, show ¬ (51 : Int32) = 45 from by decide, show ¬ (51 : Int32) = 46 from by decide, show ¬ (51 : Int32) = 47 from by decide, show ¬ (51 : Int32) = 48 from by decide, show ¬ (51 : Int32) = 49 from by decide, show ¬ (51 : Int32) = 50 from by decide, show ¬ (51 : Int32) = 60 from by decide, show ¬ (51 : Int32) = 61 from by decide, show ¬ (51 : Int32) = 62 from by decide, if_true, if_false]
    repeat' (first | rfl | (simp_all; done) | split)
  by_cases h52 : c = 52
  · subst h52
    simp only [show ¬ (52 : Int32) = 37 from by decide, show ¬ (52 : Int32) = 38 from by decide, show ¬ (52 : Int32) = 39 from by decide, show ¬ (52 : Int32) = 40 from by decide, show ¬ (52 : Int32) = 41 from by decide, show ¬ (52 : Int32) = 42 from by decide, show ¬ (52 : Int32) = 43 from by decide, show ¬ (52 : Int32) = 44 from by decide, show ¬ (52 : Int32) = 45 from by decide, show ¬ (52 : Int32) = 46 from by decide, show ¬ (52 : Int32) = 47 from by decide, show ¬ (52 : Int32) = 48 from by decide, show ¬ (52 : Int32) = 49 from by decide, show ¬ (52 : Int32) = 50 from by decide, show ¬ (52 : Int32) = 51 from by decide, show ¬ (52 : Int32) = 60 from by decide, show ¬ (52 : Int32) = 61 from by decide, show ¬ (52 : Int32) = 62 from by decide, if_true, if_false]
    repeat' (first | rfl | (simp_all; done) | split)
  by_cases h53 : c = 53
  · subst h53
    simp only [show ¬ (53 : Int32) = 37 from by decide, show ¬ (53 : Int32) = 38 from by decide, show ¬ (53 : Int32) = 39 from by decide, show ¬ (53 : Int32) = 40 from by decide, show ¬ (53 : Int32) = 41 from by decide, show ¬ (53 : Int32) = 42 from by decide, show ¬ (53 : Int32) = 43 from by decide, show ¬ (53 : Int32) = 44 from by decide, show ¬ (53 : Int32) = 45 from by decide, show ¬ (53 : Int32) = 46 from by decide, show ¬ (53 : Int32) = 47 from by decide, show ¬ (53 : Int32) = 48 from by decide, show ¬ (53 : Int32) = 49 from by decide, show ¬ (53 : Int32) = 50 from by decide, show ¬ (53 : Int32) = 51 from by decide, show ¬ (53 : Int32) = 52 from by decide, show ¬ (53 : Int32) = 60 from by decide, show ¬ (53 : Int32) = 61 from by decide, show ¬ (53 : Int32) = 62 from by decide, if_true, if_false]
    repeat' (first | rfl | (simp_all; done) | split)
  by_cases h54 : c = 54
  · subst h54
    simp only [show ¬ (54 : Int32) = 37 from by decide, show ¬ (54 : Int32) = 38 from by decide, show ¬ (54 : Int32) = 39 from by decide, show ¬ (54 : Int32) = 40 from by decide, show ¬ (54 : Int32) = 41 from by decide, show ¬ (54 : Int32) = 42 from by decide, show ¬ (54 : Int32) = 43 from by decide, show ¬ (54 : Int32) = 44 from by decide, show ¬ (54 : Int32) = 45 from by decide, show ¬ (54 : Int32) = 46 from by decide, show ¬ (54 : Int32) = 47 from by decide, show ¬ (54 : Int32) = 48 from by decide, show ¬ (54 : Int32) = 49 from by decide, show ¬ (54 : Int32) = 50 from by decide, show ¬ (54 : Int32) = 51 from by decide, show ¬ (54 : Int32) = 52 from by decide, show ¬ (54 : Int32) = 53 from by decide, show ¬ (54 : Int32) = 60 from by decide, show ¬ (54 : Int32) = 61 from by decide, show ¬ (54 : Int32) = 62 from by decide, if_true, if_false]
    repeat' (first | rfl | (simp_all; done) | split)
  by_cases h55 : c = 55
  · subst h55
    simp only [show ¬ (55 : Int32) = 37 from by decide, show ¬ (55 : Int32) = 38 from by decide, show ¬ (55 : Int32) = 39 from by decide, show ¬ (55 : Int32) = 40 from by decide, show ¬ (55 : Int32) = 41 from by decide, show ¬ (55 : Int32) = 42 from by decide, show ¬ (55 : Int32) = 43 from by decide, show ¬ (55 : Int32) = 44 from by decide, show ¬ (55 : Int32) = 45 from by decide, show ¬ (55 : Int32) = 46 from by decide, show ¬ (55 : Int32) = 47 from by decide, show ¬ (55 : Int32) = 48 from by decide, show ¬ (55 : Int32) = 49 from by decide, show ¬ (55 : Int32) = 50 from by decide, show ¬ (55 : Int32) = 51 from by decide, show ¬ (55 : Int32) = 52 from by decide, show ¬ (55 : Int32) = 53 from by decide, show ¬ (55 : Int32) = 54 from by decide, show ¬ (55 : Int32) = 60 from by decide, show ¬ (55 : Int32) = 61 from by decide, show ¬ (55 : Int32) = 62 from by decide, if_true, if_false]
    repeat' (first | rfl | (simp_all; done) | split)
  by_cases h56 : c = 56
  · subst h56
    simp only [show ¬ (56 : Int32) = 37 from by decide, show ¬ (56 : Int32) = 38 from by decide, show ¬ (56 : Int32) = 39 from by decide, show ¬ (56 : Int32) = 40 from by decide, show ¬ (56 : Int32) = 41 from by decide, show ¬ (56 : Int32) = 42 from by decide, show ¬ (56 : Int32) = 43 from by decide, show ¬ (56 : Int32) = 44 from by decide, show ¬ (56 : Int32) = 45 from by decide, show ¬ (56 : Int32) = 46 from by decide, show ¬ (56 : Int32) = 47 from by decide, show ¬ (56 : Int32) = 48 from by decide, show ¬ (56 : Int32) = 49 from by decide, show ¬ (56 : Int32) = 50 from by decide, show ¬ (56 : Int32) = 51 from by decide, show ¬ (56 : Int32) = 52 from by decide, show ¬ (56 : Int32) = 53 from by decide, show ¬ (56 : Int32) = 54 from by decide, show ¬ (56 : Int32) = 55 from by decide, show ¬ (56 : Int32) = 60 from by decide, show ¬ (56 : Int32) = 61 from by decide, show ¬ (56 : Int32) = 62 from by decide, if_true, if_false]
    repeat' (first | rfl | (simp_all; done) | split)
  by_cases h57 : c = 57
  · subst h57
    simp only [show ¬ (57 : Int32) = 37 from by decide, show ¬ (57 : Int32) = 38 from by decide, show ¬ (57 : Int32) = 39 from by decide, show ¬ (57 : Int32) = 40 from by decide, show ¬ (57 : Int32) = 41 from by decide, show ¬ (57 : Int32) = 42 from by decide, show ¬ (57 : Int32) = 43 from by decide, show ¬ (57 : Int32) = 44 from by decide, show ¬ (57 : Int32) = 45 from by decide, show ¬ (57 : Int32) = 46 from by decide, show ¬ (57 : Int32) = 47 from by decide, show ¬ (57 : Int32) = 48 from by decide, show ¬ (57 : Int32) = 49 from by decide, show ¬ (57 : Int32) = 50 from by decide, show ¬ (57 : Int32) = 51 from by decide, show ¬ (57 : Int32) = 52 from by decide, show ¬ (57 : Int32) = 53 from by decide, show ¬ (57 : Int32) = 54 from by decide, show ¬ (57 : Int32) = 55 from by decide, show ¬ (57 : Int32) = 56 from by decide, show ¬ (57 : Int32) = 60 from by decide, show ¬ (57 : Int32) = 61 from by decide, show ¬ (57 : Int32) = 62 from by decide, if_true, if_false]
    repeat' (first | rfl | (simp_all; done) | split)
  by_cases h58 : c = 58
  · subst h58
    simp only [show ¬ (58 : Int32) = 37 from by decide, show ¬ (58 : Int32) = 38 from by decide, show ¬ (58 : Int32) = 39 from by decide, show ¬ (58 : Int32) = 40 from by decide, show ¬ (58 : Int32) = 41 from by decide, show ¬ (58 : Int32) = 42 from by decide, show ¬ (58 : Int32) = 43 from by decide, show ¬ (58 : Int32) = 44 from by decide, show ¬ (58 : Int32) = 45 from by decide, show ¬ (58 : Int32) = 46 from by decide, show ¬ (58 : Int32) = 47 from by decide, show ¬ (58 : Int32) = 48 from by decide, show ¬ (58 : Int32) = 49 from by decide, show ¬ (58 : Int32) = 50 from by decide, show ¬ (58 : Int32) = 51 from by decide, show ¬ (58 : Int32) = 52 from by decide, show ¬ (58 : Int32) = 53 from by decide, show ¬ (58 : Int32) = 54 from by decide, show ¬ (58 : Int32) = 55 from by decide, show ¬ (58 : Int32) = 56 from by decide, show ¬ (58 : Int32) = 57 from by decide, show ¬ (58 : Int32) = 60 from by decide, show ¬ (58 : Int32) = 61 from by decide, show ¬ (58 : Int32) = 62 from by decide, if_true, if_false]
    repeat' (first | rfl | (simp_all; done) | split)
  by_cases h59 : c = 59
  · subst h59
    simp only [show ¬ (59 : Int32) = 37 from by decide, show ¬ (59 : Int32) = 38 from by decide, show ¬ (59 : Int32) = 39 from by decide, show ¬ (59 : Int32) = 40 from by decide, show ¬ (59 : Int32) = 41 from by decide, show ¬ (59 : Int32) = 42 from by decide, show ¬ (59 : Int32) = 43 from by decide, show ¬ (59 : Int32) = 44 from by decide, show ¬ (59 : Int32) = 45 from by decide, show ¬ (59 : Int32) = 46 from by decide, show ¬ (59 : Int32) = 47 from by decide, show ¬ (59 : Int32) = 48 from by decide, show ¬ (59 : Int32) = 49 from by decide, show ¬ (59 : Int32) = 50 from by decide, show ¬ (59 : Int32) = 51 from by decide, show ¬ (59 : Int32) = 52 from by decide, show ¬ (59 : Int32) = 53 from by decide, show ¬ (59 : Int32) = 54 from by decide, show ¬ (59 : Int32) = 55 from by decide, show ¬ (59 : Int32) = 56 from by decide, show ¬ (59 : Int32) = 57 from by decide, show ¬ (59 : Int32) = 58 from by decide, show ¬ (59 : Int32) = 60 from by decide, show ¬ (59 : Int32) = 61 from by decide, show ¬ (59 : Int32) = 62 from by decide, if_true, if_false]
    repeat' (first | rfl | (simp_all; done) | split)
  by_cases h60 : c = 60
  · subst h60
    simp only [show ¬ (60 : Int32) = 37 from by decide, show ¬ (60 : Int32) = 38 from by decide, show ¬ (60 : Int32) = 39 from by decide, show ¬ (60 : Int32) = 40 from by decide, show ¬ (60 : Int32) = 41 from by decide, show ¬ (60 : Int32) = 42 from by decide, show ¬ (60 : Int32) = 43 from by decide, show ¬ (60 : Int32) = 44 from by decide, show ¬ (60 : Int32) = 45 from by decide, show ¬ (60 : Int32) = 46 from by decide, show ¬ (60 : Int32) = 47 from by decide, show ¬ (60 : Int32) = 48 from by decide, show ¬ (60 : Int32) = 49 from by decide, show ¬ (60 : Int32) = 50 from by decide, show ¬ (60 : Int32) = 51 from by decide, show ¬ (60 : Int32) = 52 from by decide, show ¬ (60 : Int32) = 53 from by decide, show ¬ (60 : Int32) = 54 from by decide, show ¬ (60 : Int32) = 55 from by decide, show ¬ (60 : Int32) = 56 from by decide, show ¬ (60 : Int32) = 57 from by decide, show ¬ (60 : Int32) = 58 from by decide, show ¬ (60 : Int32) = 59 from by decide, show ¬ (60 : Int32) = 61 from by decide, show ¬ (60 : Int32) = 62 from by decide, if_true, if_false]
    repeat' (first | rfl | (simp_all; done) | split)
  by_cases h61 : c = 61
  · subst h61
    simp only [show ¬ (61 : Int32) = 37 from by decide, show ¬ (61 : Int32) = 38 from by decide, show ¬ (61 : Int32) = 39 from by decide, show ¬ (61 : Int32) = 40 from by decide, show ¬ (61 : Int32) = 41 from by decide, show ¬ (61 : Int32) = 42 from by decide, show ¬ (61 : Int32) = 43 from by decide, show ¬ (61 : Int32) = 44 from by decide, show ¬ (61 : Int32) = 45 from by decide, show ¬ (61 : Int32) = 46 from by decide, show ¬ (61 : Int32) = 47 from by decide, show ¬ (61 : Int32) = 48 from by decide, show ¬ (61 : Int32) = 49 from by decide, show ¬ (61 : Int32) = 50 from by decide, show ¬ (61 : Int32) = 51 from by decide, show ¬ (61 : Int32) = 52 from by decide, show ¬ (61 : Int32) = 53 from by decide, show ¬ (61 : Int32) = 54 from by decide, show ¬ (61 : Int32) = 55 from by decide, show ¬ (61 : Int32) = 56 from by decide, show ¬ (61 : Int32) = 57 from by decide, show ¬ (61 : Int32) = 58 from by decide, show ¬ (61 : Int32) = 59 from by decide, show ¬ (61 : Int32) = 60 from by decide, show ¬ (61 : Int32) = 62 from by decide, if_true, if_false]
    repeat' (first | rfl | (simp_all; done) | split)
  by_cases h62 : c = 62
  · subst h62
    simp only [show ¬ (62 : Int32) = 37 from by decide, show ¬ (62 : Int32) = 38 from by decide, show ¬ (62 : Int32) = 39 from by decide, show ¬ (62 : Int32) = 40 from by decide, show ¬ (62 : Int32) = 41 from by decide, show ¬ (62 : Int32) = 42 from by decide, show ¬ (62 : Int32) = 43 from by decide, show ¬ (62 : Int32) = 44 from by decide, show ¬ (62 : Int32) = 45 from by decide, show ¬ (62 : Int32) = 46 from by decide, show ¬ (62 : Int32) = 47 from by decide, show ¬ (62 : Int32) = 48 from by decide, show ¬ (62 : Int32) = 49 from by decide, show ¬ (62 : Int32) = 50 from by decide, show ¬ (62 : Int32) = 51 from by decide, show ¬ (62 : Int32) = 52 from by decide, show ¬ (62 : Int32) = 53 from by decide, show ¬ (62 : Int32) = 54 from by decide, show ¬ (62 : Int32) = 55 from by decide, show ¬ (62 : Int32) = 56 from by decide, show ¬ (62 : Int32) = 57 from by decide, show ¬ (62 : Int32) = 58 from by decide, show ¬ (62 : Int32) = 59 from by decide, show ¬ (62 : Int32) = 60 from by decide, show ¬ (62 : Int32) = 61 from by decide, if_true, if_false]
    repeat' (first | rfl | (simp_all; done) | split)
  simp only [h37, h38, h39, h40, h41, h42, h43, h44, h45, h46, h47, h48, h49, h50, h51, h52, h53, h54, h55, h56, h57, h58, h59, h60, h61, h62, if_false]
  repeat' (first | rfl | (simp_all; done) | split)

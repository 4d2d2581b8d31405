/-! LAYER 3: searches: folds over all rows of digits -/
set_option maxRecDepth 100000
def foldN {A : Type} (g : Nat → A → A) : Nat → A → A
  | 0, a => a
  | k + 1, a => g k (foldN g k a)
theorem foldN_congr {A : Type} {g g' : Nat → A → A} (n : Nat) (a : A) (h : ∀ k, k < n → g k = g' k) : foldN g n a = foldN g' n a := by
  induction n with
  | zero => rfl
  | succ n ih =>
    simp only [foldN]
    rw [ih (fun k hk => h k (by omega)), h n (by omega)]
theorem foldN_add {A : Type} (g : Nat → A → A) (m n : Nat) (a : A) : foldN g (m + n) a = foldN (fun i => g (m + i)) n (foldN g m a) := by
  induction n with
  | zero => rfl
  | succ n ih =>
    show g (m + n) (foldN g (m + n) a) = g (m + n) (foldN (fun i => g (m + i)) n (foldN g m a))
    rw [ih]
theorem foldN_mul {A : Type} (g : Nat → A → A) (m : Nat) : ∀ (B : Nat) (a : A), foldN g (B * m) a = foldN (fun d => foldN (fun v => g (d * m + v)) m) B a := by
  intro B
  induction B with
  | zero => intro a; rw [Nat.zero_mul]; rfl
  | succ B ih =>
    intro a
    rw [Nat.succ_mul, foldN_add, ih]
    rfl
/-- over all rows of n digits (below B), in order -/
def TF {A : Type} (B : Nat) : Nat → ((Int → Int) → A → A) → A → A
  | 0, up, a => up (fun _ => 0) a
  | n + 1, up, a => foldN (fun d => TF B n (fun t => up (consI d t))) B a
def extA {A : Type} (n : Nat) (up : (Int → Int) → A → A) : Prop := ∀ t t' : Int → Int, (∀ i : Int, 0 ≤ i → i < n → t i = t' i) → up t = up t'
theorem extA.cons {A : Type} {n : Nat} {up : (Int → Int) → A → A} (h : extA (n + 1) up) (e : Int) : extA n (fun t => up (consI e t)) := by
  intro t t' ht
  refine h _ _ (fun i i1 i2 => ?_)
  unfold consI
  by_cases hi : i = 0
  · rw [if_pos hi, if_pos hi]
  · rw [if_neg hi, if_neg hi]
    exact ht (i - 1) (by omega) (by omega)
/-- the digits of a number, the highest first -/
def dgB (B n : Nat) (v : Int) : Int → Int := fun i => v / (B : Int) ^ (n - 1 - i.toNat) % B
theorem dgB_cons {B n : Nat} {v d i : Int} (hB : 0 < B) (hv : 0 ≤ v) (hv2 : v < (B : Int) ^ n) (hd : 0 ≤ d ∧ d < B) (hi : 0 ≤ i) (hi2 : i < n + 1) : dgB B (n + 1) (d * (B : Int) ^ n + v) i = consI d (dgB B n v) i := by
  have hp : (0 : Int) < (B : Int) ^ n := Int.pow_pos (by omega)
  unfold dgB consI
  by_cases h0 : i = 0
  · subst h0
    rw [if_pos rfl, show n + 1 - 1 - (0 : Int).toNat = n by simp, Int.add_comm, Int.add_mul_ediv_right _ _ (by omega), Int.ediv_eq_zero_of_lt hv hv2, Int.zero_add, Int.emod_eq_of_lt hd.1 hd.2]
  · rw [if_neg h0, show n + 1 - 1 - i.toNat = n - 1 - (i - 1).toNat by omega]
    have hq : (0 : Int) < (B : Int) ^ (n - 1 - (i - 1).toNat) := Int.pow_pos (by omega)
    have e : (B : Int) ^ n = (B : Int) ^ (i - 1).toNat * B * (B : Int) ^ (n - 1 - (i - 1).toNat) := by
      have h1 : n = (i - 1).toNat + 1 + (n - 1 - (i - 1).toNat) := by omega
      have h2 : (B : Int) ^ n = (B : Int) ^ ((i - 1).toNat + 1 + (n - 1 - (i - 1).toNat)) := by rw [← h1]
      rw [h2, Int.pow_add, Int.pow_succ]
    rw [e, ← Int.mul_assoc, Int.add_comm, Int.add_mul_ediv_right _ _ (by omega), ← Int.mul_assoc, Int.add_mul_emod_self_right]
theorem TF_num {A : Type} {B : Nat} (hB : 0 < B) : ∀ (n : Nat) (up : (Int → Int) → A → A) (a : A), extA n up → foldN (fun v => up (dgB B n v)) (B ^ n) a = TF B n up a := by
  intro n
  induction n with
  | zero =>
    intro up a h
    show up (dgB B 0 ((0 : Nat) : Int)) a = up (fun _ => 0) a
    rw [h (dgB B 0 ((0 : Nat) : Int)) (fun _ => 0) (fun i i1 i2 => by omega)]
  | succ n ih =>
    intro up a h
    rw [Nat.pow_succ, Nat.mul_comm, foldN_mul]
    simp only [TF]
    refine foldN_congr _ _ (fun d hd => ?_)
    funext b
    rw [← ih _ b (h.cons d)]
    refine foldN_congr _ _ (fun v hv => ?_)
    have hv' : (v : Int) < (B : Int) ^ n := by
      have := Int.ofNat_lt.mpr hv
      simpa using this
    refine h _ _ (fun i i1 i2 => ?_)
    have e : ((d * B ^ n + v : Nat) : Int) = (d : Int) * (B : Int) ^ n + v := by simp
    rw [e]
    exact dgB_cons hB (by omega) hv' (by omega) i1 (by omega)
/-- digits below B -/
def dB (B : Nat) (t : Int → Int) : Prop := ∀ i, 0 ≤ t i ∧ t i < (B : Int)
theorem dB.cons {B : Nat} {t : Int → Int} (h : dB B t) {d : Nat} (hd : d < B) : dB B (consI d t) := by
  intro i
  unfold consI
  split
  · omega
  · exact h _
theorem foldN_skip {A : Type} {g : Nat → A → A} {a : A} (m n : Nat) (h : ∀ k, m ≤ k → k < n → g k a = a) (hm : foldN g m a = a) (hmn : m ≤ n) : foldN g n a = a := by
  induction n with
  | zero => rw [show m = 0 by omega] at hm; exact hm
  | succ n ih =>
    by_cases c : m = n + 1
    · rw [← c]; exact hm
    · simp only [foldN]
      rw [ih (fun k k1 k2 => h k k1 (by omega)) (by omega)]
      exact h n (by omega) (by omega)
theorem foldN_rest {A : Type} {g : Nat → A → A} {a : A} (m n : Nat) (h : ∀ k b, m ≤ k → k < n → g k b = b) (hmn : m ≤ n) : foldN g n a = foldN g m a := by
  induction n with
  | zero => rw [show m = 0 by omega]
  | succ n ih =>
    by_cases c : m = n + 1
    · rw [← c]
    · simp only [foldN]
      rw [h n _ (by omega) (by omega)]
      exact ih (fun k b k1 k2 => h k b k1 (by omega)) (by omega)
theorem TF_skip {A : Type} {B : Nat} (hB : 0 < B) : ∀ (n : Nat) (up : (Int → Int) → A → A) (a : A), (∀ t, dB B t → up t a = a) → TF B n up a = a := by
  intro n
  induction n with
  | zero => intro up a h; exact h _ (fun i => by omega)
  | succ n ih =>
    intro up a h
    simp only [TF]
    exact foldN_skip 0 B (fun d _ hd => ih _ a (fun t ht => h _ (ht.cons hd))) rfl (by omega)
/-- the first l digits by D -/
def joinI (l : Int) (D t : Int → Int) : Int → Int := fun z => if z < l then D z else t (z - l)
theorem join_0 (D t : Int → Int) (i : Int) (h : 0 ≤ i) : joinI 0 D t i = t i := by
  unfold joinI
  rw [if_neg (by omega), Int.sub_zero]
theorem join_cons {l : Int} {D t : Int → Int} {d : Int} (i : Int) : joinI l D (consI d t) i = joinI (l + 1) (upI D l d) t i := by
  unfold joinI consI upI
  by_cases h1 : i < l
  · rw [if_pos h1, if_pos (by omega), if_neg (by omega)]
  · rw [if_neg h1]
    by_cases h2 : i = l
    · rw [if_pos (by omega), if_pos (by omega), if_pos h2]
    · rw [if_neg (by omega), if_neg (by omega), show i - l - 1 = i - (l + 1) by omega]
theorem join_cons9 (l : Int) (D t : Int → Int) (d : Int) : joinI l D (consI d t) = joinI (l + 1) (upI D l d) t := funext fun i => join_cons i
/-- one digit more -/
theorem TF_join {A : Type} {B : Nat} (n : Nat) (up : (Int → Int) → A → A) (l : Int) (D : Int → Int) (a : A) : TF B (n + 1) (fun t => up (joinI l D t)) a = foldN (fun d => TF B n (fun t => up (joinI (l + 1) (upI D l d) t))) B a := by
  simp only [TF]
  refine foldN_congr _ _ (fun d _ => ?_)
  funext b
  congr 1
  funext t
  rw [join_cons9]

/-! LAYER 3, the text: its tokens (a plain law) -/
set_option maxRecDepth 100000
def isLt (c : Int) : Bool := decide (97 ≤ c ∧ c ≤ 122)
def isDg (c : Int) : Bool := decide (48 ≤ c ∧ c ≤ 57)
def isBl (c : Int) : Bool := decide (c = 32 ∨ c = 10)
def isSg (c : Int) : Bool := [59, 40, 41, 60, 62, 61, 43, 45, 42, 47, 37].contains c
theorem isLt_t {c : Int} : isLt c = true ↔ 97 ≤ c ∧ c ≤ 122 := by unfold isLt; simp
theorem isDg_t {c : Int} : isDg c = true ↔ 48 ≤ c ∧ c ≤ 57 := by unfold isDg; simp
theorem isBl_t {c : Int} : isBl c = true ↔ c = 32 ∨ c = 10 := by unfold isBl; simp
theorem isSg_t {c : Int} : isSg c = true ↔ c = 59 ∨ c = 40 ∨ c = 41 ∨ c = 60 ∨ c = 62 ∨ c = 61 ∨ c = 43 ∨ c = 45 ∨ c = 42 ∨ c = 47 ∨ c = 37 := by unfold isSg; simp
/-- how far signs of a sort go on -/
def runE (P : Int → Bool) (T : Int → Int) (n : Int) : Nat → Int → Int
  | 0, p => p
  | f + 1, p => if p < n ∧ P (T p) = true then runE P T n f (p + 1) else p
def rnE (P : Int → Bool) (T : Int → Int) (n p : Int) : Int := runE P T n (n - p).toNat p
theorem rnE_ok {P : Int → Bool} {T : Int → Int} {n : Int} : ∀ {p : Int}, p ≤ n → (p ≤ rnE P T n p ∧ rnE P T n p ≤ n) ∧ (∀ k, p ≤ k → k < rnE P T n p → P (T k) = true) ∧ ¬ (rnE P T n p < n ∧ P (T (rnE P T n p)) = true) := by
  have : ∀ (f : Nat) (p : Int), p ≤ n → f = (n - p).toNat → (p ≤ runE P T n f p ∧ runE P T n f p ≤ n) ∧ (∀ k, p ≤ k → k < runE P T n f p → P (T k) = true) ∧ ¬ (runE P T n f p < n ∧ P (T (runE P T n f p)) = true) := by
    intro f
    induction f with
    | zero =>
      intro p hp hf
      refine ⟨⟨Int.le_refl _, hp⟩, fun k k1 k2 => ?_, fun h => ?_⟩
      · replace k2 : k < p := k2
        omega
      · have h1 : p < n := h.1
        omega
    | succ f ih =>
      intro p hp hf
      simp only [runE]
      by_cases c : p < n ∧ P (T p) = true
      · rw [if_pos c]
        obtain ⟨⟨a1, a2⟩, a3, a4⟩ := ih (p + 1) (by omega) (by omega)
        refine ⟨⟨by omega, a2⟩, fun k k1 k2 => ?_, a4⟩
        by_cases e : k = p
        · rw [e]; exact c.2
        · exact a3 k (by omega) k2
      · rw [if_neg c]
        exact ⟨⟨Int.le_refl _, hp⟩, fun k k1 k2 => by omega, c⟩
  intro p hp
  exact this _ p hp rfl
/-- a word's number, as both reckon it -/
def wv (T : Int → Int) (a : Int) : Nat → Int64
  | 0 => 0
  | m + 1 => (wv T a m <<< (Int32.toInt64 8 &&& 63)) ||| Int32.toInt64 (iI (T (a + m)))
def nv (T : Int → Int) (a : Int) : Nat → Int
  | 0 => 0
  | m + 1 => 10 * nv T a m + T (a + m) - 48
/-- a token: its sort (0 end, 1 word, 2 number, 3 bad, else a sign), place, end, number, word -/
abbrev Tk : Type := Int × Int × Int × Int × Int64
abbrev tS (τ : Tk) : Int := τ.1
abbrev tP (τ : Tk) : Int := τ.2.1
abbrev tE (τ : Tk) : Int := τ.2.2.1
abbrev tN (τ : Tk) : Int := τ.2.2.2.1
abbrev tW (τ : Tk) : Int64 := τ.2.2.2.2
def tkA (T : Int → Int) (n q : Int) : Tk :=
  if q < n then (if isLt (T q) = true then (if rnE isLt T n q - q ≤ 8 then (1, q, rnE isLt T n q, 0, wv T q (rnE isLt T n q - q).toNat) else (3, q, q, 0, 0)) else if isDg (T q) = true then (if 4 < rnE isDg T n q - q ∨ (rnE isDg T n q < n ∧ isLt (T (rnE isDg T n q)) = true) then (3, q, q, 0, 0) else (2, q, rnE isDg T n q, nv T q (rnE isDg T n q - q).toNat, 0)) else if isSg (T q) = true then (T q, q, q + 1, 0, 0) else (3, q, q, 0, 0)) else (0, q, q, 0, 0)
def tk (T : Int → Int) (n p : Int) : Tk := tkA T n (rnE isBl T n p)
theorem nv_b {T : Int → Int} {a : Int} : ∀ (m : Nat), (∀ k, a ≤ k → k < a + m → isDg (T k) = true) → m ≤ 4 → 0 ≤ nv T a m ∧ nv T a m < 10 ^ m := by
  intro m
  induction m with
  | zero => intro _ _; exact ⟨Int.le_refl _, (by decide : (0 : Int) < 1)⟩
  | succ m ih =>
    intro h hm
    have h1 := ih (fun k k1 k2 => h k k1 (by omega)) (by omega)
    have h2 := isDg_t.mp (h (a + m) (by omega) (by omega))
    simp only [nv]
    have : m = 0 ∨ m = 1 ∨ m = 2 ∨ m = 3 := by omega
    rcases this with rfl | rfl | rfl | rfl <;> simp only [Nat.reduceAdd, Int.reducePow] at * <;> omega
/-- what a token is -/
def tkO (T : Int → Int) (n : Int) (τ : Tk) : Prop := (0 ≤ tP τ ∧ tP τ ≤ tE τ ∧ tE τ ≤ n) ∧ (0 ≤ tN τ ∧ tN τ ≤ 9999) ∧ (tS τ = 0 ∨ tS τ = 1 ∨ tS τ = 2 ∨ tS τ = 3 ∨ (isSg (tS τ) = true ∧ tP τ < n ∧ T (tP τ) = tS τ)) ∧ (¬ tS τ = 0 → ¬ tS τ = 3 → tP τ < tE τ) ∧ (tS τ = 1 → tE τ - tP τ ≤ 8 ∧ tW τ = wv T (tP τ) (tE τ - tP τ).toNat ∧ ∀ k, tP τ ≤ k → k < tE τ → isLt (T k) = true)
theorem tk_ok {T : Int → Int} {n p : Int} (h0 : 0 ≤ p) (hp : p ≤ n) : tkO T n (tk T n p) ∧ p ≤ tP (tk T n p) := by
  obtain ⟨⟨a1, a2⟩, a3, a4⟩ := rnE_ok (P := isBl) (T := T) hp
  unfold tk
  generalize rnE isBl T n p = q at *
  unfold tkA
  by_cases c : q < n
  · rw [if_pos c]
    by_cases c1 : isLt (T q) = true
    · rw [if_pos c1]
      obtain ⟨⟨b1, b2⟩, b3, b4⟩ := rnE_ok (P := isLt) (T := T) a2
      have b5 : q < rnE isLt T n q := by
        by_cases e : rnE isLt T n q = q
        · exact absurd ⟨by omega, by rw [e]; exact c1⟩ b4
        · omega
      generalize rnE isLt T n q = e at *
      by_cases c2 : e - q ≤ 8
      · rw [if_pos c2]
        exact ⟨⟨⟨by show 0 ≤ q; omega, by show q ≤ e; omega, b2⟩, (by decide : (0 : Int) ≤ 0 ∧ (0 : Int) ≤ 9999), Or.inr (Or.inl rfl), fun _ _ => b5, fun _ => ⟨c2, rfl, b3⟩⟩, a1⟩
      · rw [if_neg c2]
        exact ⟨⟨⟨by show 0 ≤ q; omega, Int.le_refl q, a2⟩, (by decide : (0 : Int) ≤ 0 ∧ (0 : Int) ≤ 9999), Or.inr (Or.inr (Or.inr (Or.inl rfl))), fun _ h => absurd rfl h, fun h => absurd (show (3 : Int) = 1 from h) (by decide)⟩, a1⟩
    · rw [if_neg c1]
      by_cases c3 : isDg (T q) = true
      · rw [if_pos c3]
        obtain ⟨⟨b1, b2⟩, b3, b4⟩ := rnE_ok (P := isDg) (T := T) a2
        have b5 : q < rnE isDg T n q := by
          by_cases e : rnE isDg T n q = q
          · exact absurd ⟨by omega, by rw [e]; exact c3⟩ b4
          · omega
        generalize rnE isDg T n q = e at *
        by_cases c2 : 4 < e - q ∨ (e < n ∧ isLt (T e) = true)
        · rw [if_pos c2]
          exact ⟨⟨⟨by show 0 ≤ q; omega, Int.le_refl q, a2⟩, (by decide : (0 : Int) ≤ 0 ∧ (0 : Int) ≤ 9999), Or.inr (Or.inr (Or.inr (Or.inl rfl))), fun _ h => absurd rfl h, fun h => absurd (show (3 : Int) = 1 from h) (by decide)⟩, a1⟩
        · rw [if_neg c2]
          have hv := nv_b (T := T) (a := q) (e - q).toNat (fun k k1 k2 => b3 k k1 (by omega)) (by omega)
          have hv2 : (10 : Int) ^ (e - q).toNat ≤ 10000 := by
            have : (e - q).toNat = 1 ∨ (e - q).toNat = 2 ∨ (e - q).toNat = 3 ∨ (e - q).toNat = 4 := by omega
            rcases this with h | h | h | h <;> rw [h] <;> decide
          exact ⟨⟨⟨by show 0 ≤ q; omega, by show q ≤ e; omega, b2⟩, ⟨hv.1, by show nv T q (e - q).toNat ≤ 9999; omega⟩, Or.inr (Or.inr (Or.inl rfl)), fun _ _ => b5, fun h => absurd (show (2 : Int) = 1 from h) (by decide)⟩, a1⟩
      · rw [if_neg c3]
        by_cases c4 : isSg (T q) = true
        · rw [if_pos c4]
          refine ⟨⟨⟨by show 0 ≤ q; omega, by show q ≤ q + 1; omega, by show q + 1 ≤ n; omega⟩, (by decide : (0 : Int) ≤ 0 ∧ (0 : Int) ≤ 9999), Or.inr (Or.inr (Or.inr (Or.inr ⟨c4, c, rfl⟩))), fun _ _ => by show q < q + 1; omega, fun h => ?_⟩, a1⟩
          have h : T q = 1 := h
          rw [h] at c4
          exact absurd c4 (by decide)
        · rw [if_neg c4]
          exact ⟨⟨⟨by show 0 ≤ q; omega, Int.le_refl q, a2⟩, (by decide : (0 : Int) ≤ 0 ∧ (0 : Int) ≤ 9999), Or.inr (Or.inr (Or.inr (Or.inl rfl))), fun _ h => absurd rfl h, fun h => absurd (show (3 : Int) = 1 from h) (by decide)⟩, a1⟩
  · rw [if_neg c]
    exact ⟨⟨⟨by show 0 ≤ q; omega, Int.le_refl q, a2⟩, (by decide : (0 : Int) ≤ 0 ∧ (0 : Int) ≤ 9999), Or.inl rfl, fun h => absurd rfl h, fun h => absurd (show (0 : Int) = 1 from h) (by decide)⟩, a1⟩
/-! words are their letters -/
def wn (f : Nat → Nat) : Nat → Nat
  | 0 => 0
  | m + 1 => 256 * wn f m + f m
theorem wn_lt {f : Nat → Nat} : ∀ m, (∀ k, k < m → f k < 128) → wn f m < 2 ^ (8 * m) ∧ (0 < m → wn f m < 2 ^ (8 * m - 1)) := by
  intro m
  induction m with
  | zero => intro _; exact ⟨Nat.zero_lt_one, fun h => absurd h (Nat.lt_irrefl 0)⟩
  | succ m ih =>
    intro h
    have h1 := (ih (fun k hk => h k (by omega))).1
    have h2 := h m (by omega)
    have e : 2 ^ (8 * (m + 1)) = 256 * 2 ^ (8 * m) := by rw [show 8 * (m + 1) = 8 * m + 8 by omega, Nat.pow_add]; omega
    have e2 : 2 ^ (8 * (m + 1) - 1) = 128 * 2 ^ (8 * m) := by rw [show 8 * (m + 1) - 1 = 8 * m + 7 by omega, Nat.pow_add]; omega
    simp only [wn]
    rw [e, e2]
    -- the first sign is below 128 too
    refine ⟨by omega, fun _ => ?_⟩
    cases m with
    | zero => simp only [wn] at *; simp only [Nat.mul_zero, Nat.pow_zero] at *; omega
    | succ j =>
      have h3 := (ih (fun k hk => h k (by omega))).2 (by omega)
      have e3 : 2 ^ (8 * (j + 1)) = 2 * 2 ^ (8 * (j + 1) - 1) := by rw [show 8 * (j + 1) = (8 * (j + 1) - 1) + 1 by omega, Nat.pow_succ, show 8 * (j + 1) - 1 + 1 - 1 = 8 * (j + 1) - 1 by omega]; omega
      generalize 2 ^ (8 * (j + 1) - 1) = w at *
      generalize wn f (j + 1) = v at *
      rw [e3]
      omega
theorem wn_inj {f g : Nat → Nat} : ∀ m m', (∀ k, k < m → 0 < f k ∧ f k < 256) → (∀ k, k < m' → 0 < g k ∧ g k < 256) → wn f m = wn g m' → m = m' ∧ ∀ k, k < m → f k = g k := by
  intro m
  induction m with
  | zero =>
    intro m' _ hg e
    cases m' with
    | zero => exact ⟨rfl, fun k hk => absurd hk (Nat.not_lt_zero k)⟩
    | succ j =>
      have := hg j (by omega)
      simp only [wn] at e
      omega
  | succ m ih =>
    intro m' hf hg e
    cases m' with
    | zero =>
      have := hf m (by omega)
      simp only [wn] at e
      omega
    | succ j =>
      have h1 := hf m (by omega)
      have h2 := hg j (by omega)
      simp only [wn] at e
      obtain ⟨rfl, h3⟩ := ih j (fun k hk => hf k (by omega)) (fun k hk => hg k (by omega)) (by omega)
      refine ⟨rfl, fun k hk => ?_⟩
      by_cases c : k = m
      · subst c; omega
      · exact h3 k (by omega)
theorem wv_step {x c : Nat} (hx : x < 2 ^ 56) (hc : c < 256) : (Int64.ofNat x <<< (Int32.toInt64 8 &&& 63)) ||| Int32.toInt64 (iI c) = Int64.ofNat (256 * x + c) := by
  have e1 : (Int32.toInt64 8 &&& 63 : Int64) = 8 := by decide
  have e2 : Int32.toInt64 (iI c) = Int64.ofNat c := by
    apply Int64.toInt_inj.mp
    rw [Int32.toInt_toInt64, iI_toInt (by omega) (by omega), Int64.toInt_ofNat_of_lt (by omega)]
  rw [e1, e2]
  apply Int64.toBitVec_inj.mp
  rw [Int64.toBitVec_or, Int64.toBitVec_shiftLeft]
  apply BitVec.eq_of_toNat_eq
  rw [BitVec.toNat_or]
  simp only [Int64.toBitVec_ofNat', BitVec.shiftLeft_eq', BitVec.toNat_shiftLeft, BitVec.toNat_ofNat]
  have e3 : ((8 : Int64).toBitVec.smod 64).toNat = 8 := by decide
  rw [e3, Nat.mod_eq_of_lt (show x < 2 ^ 64 by omega), Nat.mod_eq_of_lt (show c < 2 ^ 64 by omega), Nat.mod_eq_of_lt (show x <<< 8 < 2 ^ 64 by rw [Nat.shiftLeft_eq]; omega), ← Nat.shiftLeft_add_eq_or_of_lt (show c < 2 ^ 8 by omega), Nat.shiftLeft_eq, Nat.mod_eq_of_lt (by omega)]
  omega
theorem wv_wn {T : Int → Int} {a : Int} : ∀ m : Nat, m ≤ 8 → (∀ k, a ≤ k → k < a + m → isLt (T k) = true) → wv T a m = Int64.ofNat (wn (fun k => (T (a + k)).toNat) m) := by
  intro m
  induction m with
  | zero => intro _ _; rfl
  | succ m ih =>
    intro hm h
    have h1 := isLt_t.mp (h (a + m) (by omega) (by omega))
    have hl : wn (fun k => (T (a + k)).toNat) m < 2 ^ 56 := by
      have := (wn_lt (f := fun k => (T (a + k)).toNat) m (fun k hk => by have := isLt_t.mp (h (a + k) (by omega) (by omega)); omega)).1
      refine Nat.lt_of_lt_of_le this (Nat.pow_le_pow_right (by omega) (by omega))
    simp only [wv, wn]
    rw [ih (by omega) (fun k k1 k2 => h k k1 (by omega))]
    have := wv_step (x := wn (fun k => (T (a + k)).toNat) m) (c := (T (a + m)).toNat) hl (by omega)
    rw [show (((T (a + m)).toNat : Nat) : Int) = T (a + m) by omega] at this
    exact this
/-- the number of a row of letters -/
def wcd (bs : List Nat) : Int64 := Int64.ofNat (wn (fun k => bs.getD k 0) bs.length)
theorem wv_eq {T : Int → Int} {a : Int} {m : Nat} {bs : List Nat} (hm : m ≤ 8) (h : ∀ k, a ≤ k → k < a + m → isLt (T k) = true) (hb : bs.length ≤ 8) (hl : ∀ k, k < bs.length → 97 ≤ bs.getD k 0 ∧ bs.getD k 0 ≤ 122) : wv T a m = wcd bs ↔ m = bs.length ∧ ∀ k : Nat, k < m → T (a + k) = bs.getD k 0 := by
  rw [wv_wn m hm h]
  have hd : ∀ k, k < m → 97 ≤ (T (a + k)).toNat ∧ (T (a + k)).toNat ≤ 122 ∧ 0 ≤ T (a + k) := fun k hk => by have := isLt_t.mp (h (a + k) (by omega) (by omega)); omega
  have b1 : wn (fun k => (T (a + k)).toNat) m < 2 ^ 63 := by
    have h0 := wn_lt (f := fun k => (T (a + k)).toNat) m (fun k hk => by have := hd k hk; omega)
    by_cases c : m = 0
    · subst c; exact Nat.lt_of_lt_of_le h0.1 (by decide)
    · exact Nat.lt_of_lt_of_le (h0.2 (by omega)) (Nat.pow_le_pow_right (by omega) (by omega))
  have b2 : wn (fun k => bs.getD k 0) bs.length < 2 ^ 63 := by
    have h0 := wn_lt (f := fun k => bs.getD k 0) bs.length (fun k hk => by have := hl k hk; omega)
    by_cases c : bs.length = 0
    · rw [c] at h0 ⊢; exact Nat.lt_of_lt_of_le h0.1 (by decide)
    · exact Nat.lt_of_lt_of_le (h0.2 (by omega)) (Nat.pow_le_pow_right (by omega) (by omega))
  constructor
  · intro e
    have e : Int64.ofNat (wn (fun k => (T (a + k)).toNat) m) = Int64.ofNat (wn (fun k => bs.getD k 0) bs.length) := e
    have e' := congrArg Int64.toInt e
    rw [Int64.toInt_ofNat_of_lt b1, Int64.toInt_ofNat_of_lt b2] at e'
    obtain ⟨e1, e2⟩ := wn_inj (f := fun k => (T (a + k)).toNat) (g := fun k => bs.getD k 0) m bs.length (fun k hk => by have := hd k hk; show 0 < (T (a + k)).toNat ∧ (T (a + k)).toNat < 256; omega) (fun k hk => by have := hl k hk; show 0 < bs.getD k 0 ∧ bs.getD k 0 < 256; omega) (by omega)
    exact ⟨e1, fun k hk => by have h1 := hd k hk; have h2 : (T (a + k)).toNat = bs.getD k 0 := e2 k hk; omega⟩
  · rintro ⟨rfl, e⟩
    show _ = Int64.ofNat _
    congr 1
    have : ∀ j, j ≤ bs.length → wn (fun k => (T (a + k)).toNat) j = wn (fun k => bs.getD k 0) j := by
      intro j
      induction j with
      | zero => intro _; rfl
      | succ j ih =>
        intro hj
        simp only [wn]
        rw [ih (by omega), e j (by omega)]
        simp
    exact this _ (Nat.le_refl _)
theorem lg_eq {x y : Int64} : lg_cmp x y = 0 ↔ x = y := by
  unfold lg_cmp
  by_cases c : x > y
  · rw [if_pos c]
    constructor
    · intro h; cases h
    · rintro rfl; exact absurd c (Int64.lt_irrefl)
  · rw [if_neg c]
    by_cases e : x = y
    · rw [if_pos e]; simp [e]
    · rw [if_neg e]
      constructor
      · intro h; cases h
      · intro h; exact absurd h e

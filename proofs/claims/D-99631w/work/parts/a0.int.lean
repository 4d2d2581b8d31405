/-! LAYER 3: ints as Ints: iI z; its laws -/
set_option maxRecDepth 100000
def iI (z : Int) : Int32 := Int32.ofInt z
theorem iI_lit (n : Nat) : (OfNat.ofNat n : Int32) = iI (OfNat.ofNat n) := (Int32.ofInt_eq_ofNat (n := n)).symm
theorem iI_nI (n : Nat) : nI n = iI n := (Int32.ofInt_eq_ofNat (n := n)).symm
theorem iI_add (a b : Int) : iI a + iI b = iI (a + b) := (Int32.ofInt_add a b).symm
theorem iI_sub (a b : Int) : iI a - iI b = iI (a - b) := (Int32.ofInt_sub a b).symm
theorem iI_mul (a b : Int) : iI a * iI b = iI (a * b) := (Int32.ofInt_mul a b).symm
theorem iI_neg (a : Int) : -iI a = iI (-a) := (Int32.ofInt_neg a).symm
theorem iI_toInt {z : Int} (h1 : -2147483648 ≤ z) (h2 : z < 2147483648) : (iI z).toInt = z := Int32.toInt_ofInt_of_le (by simpa using h1) (by simpa using h2)
theorem iI_le {a b : Int} (h1 : -2147483648 ≤ a) (h2 : a < 2147483648) (h3 : -2147483648 ≤ b) (h4 : b < 2147483648) : iI a ≤ iI b ↔ a ≤ b := by
  rw [Int32.le_iff_toInt_le, iI_toInt h1 h2, iI_toInt h3 h4]
theorem iI_lt {a b : Int} (h1 : -2147483648 ≤ a) (h2 : a < 2147483648) (h3 : -2147483648 ≤ b) (h4 : b < 2147483648) : iI a < iI b ↔ a < b := by
  rw [Int32.lt_iff_toInt_lt, iI_toInt h1 h2, iI_toInt h3 h4]
theorem iI_eq {a b : Int} (h1 : -2147483648 ≤ a) (h2 : a < 2147483648) (h3 : -2147483648 ≤ b) (h4 : b < 2147483648) : iI a = iI b ↔ a = b := by
  rw [← Int32.toInt_inj, iI_toInt h1 h2, iI_toInt h3 h4]
theorem iI_of (x : Int32) : x = iI x.toInt := (Int32.ofInt_toInt x).symm
theorem iI_clamp {z : Int} (h1 : 0 ≤ z) (h2 : z < 2147483648) : (iI z).toNatClampNeg = z.toNat := by
  rw [← Int32.toNat_toInt, iI_toInt (by omega) h2]
theorem inb_i {z : Int} {n : Nat} (h1 : 0 ≤ z) (h2 : z < n) (h3 : n < 2147483648) : ai_inb (iI z) n = true := by
  unfold ai_inb
  apply decide_eq_true
  rw [iI_clamp h1 (by omega)]
  rintro (h | h)
  · rw [show (0 : Int32) = iI 0 from iI_lit 0, iI_lt (by omega) (by omega) (by omega) (by omega)] at h
    omega
  · omega
theorem iI_div {a b : Int} (h1 : 0 ≤ a) (h2 : a < 2147483648) (h3 : 0 < b) (h4 : b < 2147483648) : iI a / iI b = iI (a / b) := by
  have := Int32.ofInt_tdiv (a := a) (b := b) (by simp [Int32.minValue]; omega) (by simp [Int32.maxValue]; omega) (by simp [Int32.minValue]; omega) (by simp [Int32.maxValue]; omega)
  unfold iI
  rw [← this, Int.tdiv_eq_ediv_of_nonneg h1]
theorem dv_i {a b : Int} (h1 : 0 ≤ a) (h2 : a < 2147483648) (h3 : 0 < b) (h4 : b < 2147483648) : dv (iI a) (iI b) = some (iI (a / b)) := by
  unfold dv
  rw [if_neg, iI_div h1 h2 h3 h4]
  rw [show (0 : Int32) = iI 0 from iI_lit 0, iI_eq (by omega) (by omega) (by omega) (by omega)]
  omega
theorem rm_i {a b : Int} (h1 : 0 ≤ a) (h2 : a < 2147483648) (h3 : 0 < b) (h4 : b < 2147483648) : rm (iI a) (iI b) = some (iI (a % b)) := by
  unfold rm
  rw [if_neg, iI_div h1 h2 h3 h4, iI_mul, iI_sub, Int.emod_def, Int.mul_comm]
  rw [show (0 : Int32) = iI 0 from iI_lit 0, iI_eq (by omega) (by omega) (by omega) (by omega)]
  omega
/-- arrays of the model by Ints -/
theorem ld_i {j n : Nat} {s : mS} {z : Int} (h1 : 0 ≤ z) (h2 : z < n) (h3 : n < 2147483648) : ld j n s (iI z) = some (s.2.2.1 j z.toNat) := by
  unfold ld
  rw [if_pos (inb_i h1 h2 h3), iI_clamp h1 (by omega)]
theorem sto_i {j n : Nat} {s : mS} {z : Int} {v : Int32} (h1 : 0 ≤ z) (h2 : z < n) (h3 : n < 2147483648) : sto j n s (iI z) v = some (mSa s j (upd (s.2.2.1 j) z.toNat v)) := by
  unfold sto
  rw [if_pos (inb_i h1 h2 h3), iI_clamp h1 (by omega)]
theorem stb_i {j n : Nat} {s : mS} {z : Int} {v : Int32} (h1 : 0 ≤ z) (h2 : z < n) (h3 : n < 2147483648) : stb j n s (iI z) v = some (mSa s j (upd (s.2.2.1 j) z.toNat (v &&& 1))) := by
  unfold stb
  rw [if_pos (inb_i h1 h2 h3), iI_clamp h1 (by omega)]
def upI (f : Int → Int) (z v : Int) : Int → Int := fun w => if w = z then v else f w
theorem upd_i {f : Nat → Int32} {z w : Int} {v : Int32} (h1 : 0 ≤ z) (h2 : 0 ≤ w) : upd f z.toNat v w.toNat = if w = z then v else f w.toNat := by
  unfold upd
  by_cases h : w = z
  · rw [if_pos h, if_pos (by rw [h])]
  · rw [if_neg h, if_neg (by omega)]
/-- array j holds f -/
def ar (s : mS) (j : Nat) (n : Int) (f : Int → Int) : Prop := ∀ z, 0 ≤ z → z < n → s.2.2.1 j z.toNat = iI (f z)
theorem ar_upd {s : mS} {j : Nat} {n z v : Int} {f : Int → Int} (h : ar s j n f) (h1 : 0 ≤ z) : ar (mSa s j (upd (s.2.2.1 j) z.toNat (iI v))) j n (upI f z v) := by
  intro w hw1 hw2
  have : (mSa s j (upd (s.2.2.1 j) z.toNat (iI v))).2.2.1 j = upd (s.2.2.1 j) z.toNat (iI v) := if_pos rfl
  rw [this, upd_i h1 hw1]
  unfold upI
  split
  · rfl
  · exact h w hw1 hw2
theorem ar_ne {s : mS} {i j : Nat} {n : Int} {f : Int → Int} {g : Nat → Int32} (h : ar s j n f) (hij : Nat.beq j i = false) : ar (mSa s i g) j n f := by
  intro w hw1 hw2
  have : (mSa s i g).2.2.1 j = s.2.2.1 j := if_neg (Nat.ne_of_beq_eq_false hij)
  rw [this]
  exact h w hw1 hw2
theorem ar_si {s : mS} {j k : Nat} {n : Int} {f : Int → Int} {v : Int32} (h : ar s j n f) : ar (mSi s k v) j n f := h
/-- FRAMES of the model: what may have changed (scalars K, 100 = the word; arrays J, 100 = the names) -/
def fr (K J : List Nat) (σ σ' : mS) : Prop := (∀ k, k ∉ K → σ'.1 k = σ.1 k) ∧ (100 ∉ K → σ'.2.1 = σ.2.1) ∧ (∀ j, j ∉ J → σ'.2.2.1 j = σ.2.2.1 j) ∧ (100 ∉ J → σ'.2.2.2 = σ.2.2.2)
section FR
variable {K J K' J' : List Nat} {σ σ1 σ2 : mS}
theorem fr.refl : fr K J σ σ := ⟨fun _ _ => rfl, fun _ => rfl, fun _ _ => rfl, fun _ => rfl⟩
theorem fr.trans (a : fr K J σ σ1) (b : fr K J σ1 σ2) : fr K J σ σ2 := ⟨fun k h => (b.1 k h).trans (a.1 k h), fun h => (b.2.1 h).trans (a.2.1 h), fun j h => (b.2.2.1 j h).trans (a.2.2.1 j h), fun h => (b.2.2.2 h).trans (a.2.2.2 h)⟩
theorem fr.mono (a : fr K J σ σ1) (hK : K.all (fun k => K'.contains k) = true) (hJ : J.all (fun k => J'.contains k) = true) : fr K' J' σ σ1 := by
  have h1 : ∀ k, k ∉ K' → k ∉ K := fun k h z => h (by simpa using List.all_eq_true.mp hK k z)
  have h2 : ∀ k, k ∉ J' → k ∉ J := fun k h z => h (by simpa using List.all_eq_true.mp hJ k z)
  exact ⟨fun k h => a.1 k (h1 k h), fun h => a.2.1 (h1 _ h), fun j h => a.2.2.1 j (h2 j h), fun h => a.2.2.2 (h2 _ h)⟩
theorem fr.si {k : Nat} {v : Int32} (a : fr K J σ σ1) (h : K.contains k = true) : fr K J σ (mSi σ1 k v) := by
  refine ⟨fun i hi => ?_, a.2.1, a.2.2.1, a.2.2.2⟩
  have : ¬ i = k := fun z => hi (by subst z; simpa using h)
  exact (if_neg this).trans (a.1 i hi)
theorem fr.sw {v : Int64} (a : fr K J σ σ1) (h : K.contains 100 = true) : fr K J σ (mSw σ1 v) :=
  ⟨a.1, fun z => absurd (by simpa using h) z, a.2.2.1, a.2.2.2⟩
theorem fr.sa {j : Nat} {f : Nat → Int32} (a : fr K J σ σ1) (h : J.contains j = true) : fr K J σ (mSa σ1 j f) := by
  refine ⟨a.1, a.2.1, fun i hi => ?_, a.2.2.2⟩
  have : ¬ i = j := fun z => hi (by subst z; simpa using h)
  exact (if_neg this).trans (a.2.2.1 i hi)
theorem fr.sn {f : Nat → Int64} (a : fr K J σ σ1) (h : J.contains 100 = true) : fr K J σ (mSn σ1 f) :=
  ⟨a.1, a.2.1, a.2.2.1, fun z => absurd (by simpa using h) z⟩
theorem fr.s (a : fr K J σ σ1) (k : Nat) (h : K.contains k = false) : σ1.1 k = σ.1 k := a.1 k (by simpa using h)
theorem fr.w (a : fr K J σ σ1) (h : K.contains 100 = false) : σ1.2.1 = σ.2.1 := a.2.1 (by simpa using h)
theorem fr.a (a : fr K J σ σ1) (j : Nat) (h : J.contains j = false) : σ1.2.2.1 j = σ.2.2.1 j := a.2.2.1 j (by simpa using h)
theorem fr.n (a : fr K J σ σ1) (h : J.contains 100 = false) : σ1.2.2.2 = σ.2.2.2 := a.2.2.2 (by simpa using h)
theorem fr.ar {j : Nat} {n : Int} {f : Int → Int} (a : fr K J σ σ1) (h : ar σ j n f) (hj : J.contains j = false) : ar σ1 j n f := by
  intro z h1 h2
  rw [a.a j hj]
  exact h z h1 h2
end FR
theorem si_eq {σ : mS} {k : Nat} {v : Int32} : (mSi σ k v).1 k = v := if_pos rfl
theorem si_ne {σ : mS} {k i : Nat} {v : Int32} (h : Nat.beq i k = false) : (mSi σ k v).1 i = σ.1 i := if_neg (Nat.ne_of_beq_eq_false h)
/-- a loop by its states, one after another -/
theorem lp_seq {S R : Type} {b : S → Option (S ⊕ R)} (st : Nat → S) (n : Nat) {r : R} (h1 : ∀ i, i < n → b (st i) = some (.inl (st (i + 1)))) (h2 : b (st n) = some (.inr r)) : lp b (st 0) = some r := by
  have : ∀ i, i ≤ n → lp b (st 0) = lp b (st i) := by
    intro i
    induction i with
    | zero => intro _; rfl
    | succ i ih => intro hi; rw [ih (by omega), lp_back (h1 i (by omega))]
  rw [this n (Nat.le_refl n), lp_out h2]
/-- a loop by an invariant: n steps at most -/
theorem lp_inv {S R : Type} {b : S → Option (S ⊕ R)} (I : Nat → S → Prop) (n : Nat) {Q : R → Prop} (h1 : ∀ i s, i < n → I i s → (∃ s', b s = some (.inl s') ∧ I (i + 1) s') ∨ (∃ r, b s = some (.inr r) ∧ Q r)) (h2 : ∀ s, I n s → ∃ r, b s = some (.inr r) ∧ Q r) {s : S} (h0 : I 0 s) : ∃ r, lp b s = some r ∧ Q r := by
  have : ∀ j i s, i + j = n → I i s → ∃ r, lp b s = some r ∧ Q r := by
    intro j
    induction j with
    | zero =>
      intro i s hi hI
      obtain rfl : i = n := by omega
      obtain ⟨r, e, q⟩ := h2 s hI
      exact ⟨r, lp_out e, q⟩
    | succ j ih =>
      intro i s hi hI
      rcases h1 i s (by omega) hI with ⟨s', e, hI'⟩ | ⟨r, e, q⟩
      · obtain ⟨r, e2, q⟩ := ih (i + 1) s' (by omega) hI'
        exact ⟨r, (lp_back e).trans e2, q⟩
      · exact ⟨r, lp_out e, q⟩
  exact this n 0 s (by omega) h0

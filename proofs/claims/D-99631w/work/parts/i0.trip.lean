/-! LAYER 3: trips: the law -/
set_option maxRecDepth 100000
/-- how many trips the first j loads make -/
def mxT (x D : Int → Int) : Nat → Int
  | 0 => 0
  | j + 1 => if x (20 + j) = -1 ∧ D j = mxT x D j then mxT x D j + 1 else mxT x D j
/-- each load goes on a trip begun, or on the next -/
def rgT (x D : Int → Int) : Nat → Int
  | 0 => 1
  | j + 1 => if rgT x D j = 1 ∧ (x (20 + j) = -1 → 0 ≤ D j ∧ D j ≤ mxT x D j) ∧ (¬ x (20 + j) = -1 → D j = 0) then 1 else 0
/-- no trip is wider than W -/
def flT (ρ : Rv) (x : Int → Int) (W : Int) (D : Int → Int) : Nat → Int
  | 0 => 1
  | j + 1 => if flT ρ x W D j = 1 ∧ (x (20 + j) = -1 → wsN ρ x D (D j) (j + 1) ≤ W) then 1 else 0
def rwT (ρ : Rv) (x D : Int → Int) : Int → Int := fun l => if 0 ≤ l ∧ l < rL ρ ∧ x (20 + l) = -1 then D l else -1
def upT (ρ : Rv) (x : Int → Int) (W : Int) (D : Int → Int) (a : Acc) : Acc := if (rgT x D (rL ρ).toNat = 1 ∧ flT ρ x W D (rL ρ).toNat = 1) ∧ mxT x D (rL ρ).toNat < a.1 then (mxT x D (rL ρ).toNat, rwT ρ x D) else a
section I0
variable {ρ : Rv} {x D D' : Int → Int} {W : Int}
theorem okT_ext (n : Nat) (h : ∀ i : Int, 0 ≤ i → i < n → D i = D' i) : mxT x D n = mxT x D' n ∧ rgT x D n = rgT x D' n ∧ flT ρ x W D n = flT ρ x W D' n := by
  induction n with
  | zero => exact ⟨rfl, rfl, rfl⟩
  | succ n ih =>
    obtain ⟨h1, h2, h3⟩ := ih (fun i i1 i2 => h i i1 (by omega))
    have e := h n (by omega) (by omega)
    have e2 := (stwC_ext (ρ := ρ) (x := x) (n + 1) h).2.1
    simp only [mxT, rgT, flT]
    rw [h1, h2, h3, e, e2]
    exact ⟨rfl, rfl, rfl⟩
theorem upT_ext (hw : wfR ρ) (x : Int → Int) (W : Int) : extA (rL ρ).toNat (upT ρ x W) := by
  have hl := hw.2.2.2.1
  intro t t' ht
  obtain ⟨h1, h2, h3⟩ := okT_ext (ρ := ρ) (x := x) (W := W) (rL ρ).toNat ht
  have hr : rwT ρ x t = rwT ρ x t' := by
    funext k
    unfold rwT
    by_cases hk : 0 ≤ k ∧ k < rL ρ ∧ x (20 + k) = -1
    · rw [if_pos hk, if_pos hk, ht k hk.1 (by omega)]
    · rw [if_neg hk, if_neg hk]
  funext a
  unfold upT
  rw [h1, h2, h3, hr]
theorem mxT_b (x D : Int → Int) (j : Nat) : 0 ≤ mxT x D j ∧ mxT x D j ≤ j := by
  induction j with
  | zero => exact (by decide : (0 : Int) ≤ 0 ∧ (0 : Int) ≤ 0)
  | succ j ih =>
    simp only [mxT]
    split <;> omega
theorem mxT_mono (x D : Int → Int) (j k : Nat) : mxT x D j ≤ mxT x D (j + k) := by
  induction k with
  | zero => exact Int.le_refl _
  | succ k ih =>
    refine Int.le_trans ih ?_
    show _ ≤ mxT x D (j + k + 1)
    simp only [mxT]
    split <;> omega
theorem rgT_01 (j : Nat) : rgT x D j = 0 ∨ rgT x D j = 1 := by
  cases j with
  | zero => exact Or.inr rfl
  | succ j =>
    simp only [rgT]
    split
    · exact Or.inr rfl
    · exact Or.inl rfl
theorem flT_01 (j : Nat) : flT ρ x W D j = 0 ∨ flT ρ x W D j = 1 := by
  cases j with
  | zero => exact Or.inr rfl
  | succ j =>
    simp only [flT]
    split
    · exact Or.inr rfl
    · exact Or.inl rfl
theorem rgT_stop {j : Nat} (h : rgT x D j = 0) (k : Nat) : rgT x D (j + k) = 0 := by
  induction k with
  | zero => exact h
  | succ k ih =>
    show rgT x D ((j + k) + 1) = 0
    simp only [rgT]
    rw [if_neg]
    rintro ⟨z, -⟩
    omega
theorem flT_stop {j : Nat} (h : flT ρ x W D j = 0) (k : Nat) : flT ρ x W D (j + k) = 0 := by
  induction k with
  | zero => exact h
  | succ k ih =>
    show flT ρ x W D ((j + k) + 1) = 0
    simp only [flT]
    rw [if_neg]
    rintro ⟨z, -⟩
    omega
theorem preT (l : Nat) (d : Int) : mxT x (upI D l d) l = mxT x D l ∧ rgT x (upI D l d) l = rgT x D l ∧ flT ρ x W (upI D l d) l = flT ρ x W D l := okT_ext l (fun i _ i2 => upI_pre i2)
theorem joinT (l : Nat) (t : Int → Int) : mxT x (joinI l D t) l = mxT x D l ∧ rgT x (joinI l D t) l = rgT x D l ∧ flT ρ x W (joinI l D t) l = flT ρ x W D l := okT_ext l (fun i _ i2 => if_pos i2)
theorem skipT_bad {l m : Nat} (hlm : l + m = (rL ρ).toNat) (h : ¬ (rgT x D l = 1 ∧ flT ρ x W D l = 1)) (a : Acc) : TF 8 m (fun t => upT ρ x W (joinI l D t)) a = a := by
  refine TF_skip (by omega) _ _ _ (fun t _ => ?_)
  have e := joinT (ρ := ρ) (x := x) (D := D) (W := W) l t
  unfold upT
  rw [if_neg]
  rintro ⟨⟨z1, z2⟩, -⟩
  rw [← hlm] at z1 z2
  refine h ⟨?_, ?_⟩
  · rcases rgT_01 (x := x) (D := D) l with z | z
    · rw [rgT_stop (by rw [e.2.1]; exact z) m] at z1
      exact absurd z1 (by decide)
    · exact z
  · rcases flT_01 (ρ := ρ) (x := x) (W := W) (D := D) l with z | z
    · rw [flT_stop (by rw [e.2.2]; exact z) m] at z2
      exact absurd z2 (by decide)
    · exact z
theorem skipT_many {l m : Nat} (hlm : l + m = (rL ρ).toNat) {a : Acc} (h : a.1 ≤ mxT x D l) : TF 8 m (fun t => upT ρ x W (joinI l D t)) a = a := by
  refine TF_skip (by omega) _ _ _ (fun t ht => ?_)
  have e := (joinT (ρ := ρ) (x := x) (D := D) (W := W) l t).1
  have e2 := mxT_mono x (joinI l D t) l m
  rw [e, hlm] at e2
  unfold upT
  rw [if_neg]
  rintro ⟨-, z⟩
  omega
theorem upT_b (hw : wfR ρ) (D : Int → Int) {a : Acc} (h : accB 8 a) : accB 8 (upT ρ x W D a) := by
  have hl := hw.2.2.2.1
  have hb := mxT_b x D (rL ρ).toNat
  unfold upT
  split
  · exact Or.inr ⟨hb.1, by simp only; omega⟩
  · exact h
theorem accT_TF (hw : wfR ρ) (m : Nat) (l : Int) (D : Int → Int) {a : Acc} (h : accB 8 a) : accB 8 (TF 8 m (fun t => upT ρ x W (joinI l D t)) a) := TF_inv m _ a (fun t b ht hb => upT_b hw _ hb) (by omega) h
/-- the next load's part in all this -/
theorem stepT {l : Nat} (hn : x (20 + (l : Int)) = -1) (d : Int) : mxT x (upI D l d) (l + 1) = (if d = mxT x D l then mxT x D l + 1 else mxT x D l) ∧ (rgT x D l = 1 → (rgT x (upI D l d) (l + 1) = 1 ↔ 0 ≤ d ∧ d ≤ mxT x D l)) ∧ (∀ b, wsN ρ x (upI D l d) b (l + 1) = wsN ρ x D b l + (if d = b then rLW ρ l else 0)) ∧ (flT ρ x W D l = 1 → (flT ρ x W (upI D l d) (l + 1) = 1 ↔ wsN ρ x D d l + rLW ρ l ≤ W)) := by
  have p := preT (ρ := ρ) (x := x) (D := D) (W := W) l d
  have p2 := (pre_ext (ρ := ρ) (x := x) (D := D) l d).2.1
  have eD : upI D l d l = d := if_pos rfl
  have ws1 : ∀ b, wsN ρ x (upI D l d) b (l + 1) = wsN ρ x D b l + (if d = b then rLW ρ l else 0) := fun b => by
    simp only [wsN]
    rw [p2, eD]
    by_cases c : d = b
    · rw [if_pos ⟨hn, c⟩, if_pos c]
    · rw [if_neg (fun z => c z.2), if_neg c]
  refine ⟨?_, fun hr => ?_, ws1, fun hf => ?_⟩
  · simp only [mxT]
    rw [p.1, eD]
    by_cases c : d = mxT x D l
    · rw [if_pos ⟨hn, c⟩, if_pos c]
    · rw [if_neg (fun z => c z.2), if_neg c]
  · simp only [rgT]
    rw [p.1, p.2.1, eD]
    constructor
    · intro z
      by_cases hc : rgT x D l = 1 ∧ (x (20 + (l : Int)) = -1 → 0 ≤ d ∧ d ≤ mxT x D l) ∧ (¬ x (20 + (l : Int)) = -1 → d = 0)
      · exact hc.2.1 hn
      · rw [if_neg hc] at z
        exact absurd z (by decide)
    · intro z
      rw [if_pos ⟨hr, fun _ => z, fun q => absurd hn q⟩]
  · have w := ws1 d
    rw [if_pos rfl] at w
    show (if flT ρ x W (upI D l d) l = 1 ∧ (x (20 + (l : Int)) = -1 → wsN ρ x (upI D l d) (upI D l d l) (l + 1) ≤ W) then (1 : Int) else 0) = 1 ↔ _
    rw [p.2.2, eD, w]
    constructor
    · intro z
      by_cases hc : flT ρ x W D l = 1 ∧ (x (20 + (l : Int)) = -1 → wsN ρ x D d l + rLW ρ l ≤ W)
      · exact hc.2 hn
      · rw [if_neg hc] at z
        exact absurd z (by decide)
    · intro z
      rw [if_pos ⟨hf, fun _ => z⟩]
theorem stepT0 {l : Nat} (hn : ¬ x (20 + (l : Int)) = -1) (d : Int) : mxT x (upI D l d) (l + 1) = mxT x D l ∧ (rgT x D l = 1 → (rgT x (upI D l d) (l + 1) = 1 ↔ d = 0)) ∧ (∀ b, wsN ρ x (upI D l d) b (l + 1) = wsN ρ x D b l) ∧ (flT ρ x W D l = 1 → flT ρ x W (upI D l d) (l + 1) = 1) := by
  have p := preT (ρ := ρ) (x := x) (D := D) (W := W) l d
  have p2 := (pre_ext (ρ := ρ) (x := x) (D := D) l d).2.1
  have eD : upI D l d l = d := if_pos rfl
  refine ⟨?_, fun hr => ?_, fun b => ?_, fun hf => ?_⟩
  · simp only [mxT]
    rw [p.1, if_neg (fun z => hn z.1)]
  · simp only [rgT]
    rw [p.1, p.2.1, eD]
    constructor
    · intro z
      by_cases hc : rgT x D l = 1 ∧ (x (20 + (l : Int)) = -1 → 0 ≤ d ∧ d ≤ mxT x D l) ∧ (¬ x (20 + (l : Int)) = -1 → d = 0)
      · exact hc.2.2 hn
      · rw [if_neg hc] at z
        exact absurd z (by decide)
    · intro z
      rw [if_pos ⟨hr, fun q => absurd q hn, fun _ => z⟩]
  · simp only [wsN]
    rw [p2, if_neg (fun z => hn z.1), Int.add_zero]
  · simp only [flT]
    rw [p.2.2, if_pos ⟨hf, fun q => absurd q hn⟩]
end I0

/-! LAYER 3: stowing: the plain law, the model -/
set_option maxRecDepth 100000
def usN (x D : Int → Int) : Nat → Int
  | 0 => 0
  | j + 1 => if x (20 + j) = -1 then orb (usN x D j) (D j) else usN x D j
def wsN (ρ : Rv) (x D : Int → Int) (b : Int) : Nat → Int
  | 0 => 0
  | j + 1 => wsN ρ x D b j + (if x (20 + j) = -1 ∧ D j = b then rLW ρ j else 0)
def okN (ρ : Rv) (x D : Int → Int) : Nat → Int
  | 0 => 1
  | j + 1 => if okN ρ x D j = 1 ∧ (x (20 + j) = -1 → D j < rB ρ ∧ x (4 + D j) = 0 ∧ burd ρ x (D j) + wsN ρ x D (D j) (j + 1) ≤ rBW ρ (D j)) ∧ (¬ x (20 + j) = -1 → D j = 0) then 1 else 0
def stwC (ρ : Rv) (x D : Int → Int) : Int := if okN ρ x D (rL ρ).toNat = 1 then membN (usN x D (rL ρ).toNat) 8 else -1
/-- the best so far: its cost (a million: none), its row -/
abbrev Acc : Type := Int × (Int → Int)
def upS (ρ : Rv) (x D : Int → Int) (a : Acc) : Acc := if 0 ≤ stwC ρ x D ∧ stwC ρ x D < a.1 then (stwC ρ x D, fun l => if 0 ≤ l ∧ l < rL ρ ∧ x (20 + l) = -1 then D l else -1) else a
/-- digits below four -/
def d4 (D : Int → Int) : Prop := ∀ i, 0 ≤ D i ∧ D i < 4
theorem orb_tab4 : ∀ S : Fin 16, ∀ b c : Fin 4, orb S.val b.val < 16 ∧ 0 ≤ orb S.val b.val ∧ bit (orb S.val b.val) c.val = (if c.val = b.val then 1 else bit S.val c.val) ∧ membN S.val 8 ≤ membN (orb S.val b.val) 8 := by decide +kernel
theorem orb4 {S b : Int} (h1 : 0 ≤ S) (h2 : S < 16) (h3 : 0 ≤ b) (h4 : b < 4) : 0 ≤ orb S b ∧ orb S b < 16 ∧ (∀ c, 0 ≤ c → c < 4 → bit (orb S b) c = if c = b then 1 else bit S c) ∧ membN S 8 ≤ membN (orb S b) 8 := by
  obtain ⟨S', rfl⟩ : ∃ k : Nat, S = k := ⟨S.toNat, by omega⟩
  obtain ⟨b', rfl⟩ : ∃ k : Nat, b = k := ⟨b.toNat, by omega⟩
  have a := orb_tab4 ⟨S', by omega⟩ ⟨b', by omega⟩ ⟨0, by omega⟩
  refine ⟨a.2.1, a.1, fun c c1 c2 => ?_, a.2.2.2⟩
  obtain ⟨c', rfl⟩ : ∃ k : Nat, c = k := ⟨c.toNat, by omega⟩
  have q := (orb_tab4 ⟨S', by omega⟩ ⟨b', by omega⟩ ⟨c', by omega⟩).2.2.1
  simp only at q
  rw [q]
  by_cases h : c' = b'
  · rw [if_pos h, if_pos (by omega)]
  · rw [if_neg h, if_neg (by omega)]
theorem bits4_tab : ∀ S T : Fin 16, (∀ c : Fin 4, bit S.val c.val = bit T.val c.val) → S = T := by decide +kernel
theorem bits4 {S T : Int} (h1 : 0 ≤ S) (h2 : S < 16) (h3 : 0 ≤ T) (h4 : T < 16) (h : ∀ c, 0 ≤ c → c < 4 → bit S c = bit T c) : S = T := by
  obtain ⟨S', rfl⟩ : ∃ k : Nat, S = k := ⟨S.toNat, by omega⟩
  obtain ⟨T', rfl⟩ : ∃ k : Nat, T = k := ⟨T.toNat, by omega⟩
  have := bits4_tab ⟨S', by omega⟩ ⟨T', by omega⟩ (fun c => h c.val (by omega) (by omega))
  have := congrArg Fin.val this
  simp only at this
  omega
theorem stwC_ext {ρ : Rv} {x D D' : Int → Int} (n : Nat) (h : ∀ i : Int, 0 ≤ i → i < n → D i = D' i) : usN x D n = usN x D' n ∧ (∀ b, wsN ρ x D b n = wsN ρ x D' b n) ∧ okN ρ x D n = okN ρ x D' n := by
  induction n with
  | zero => exact ⟨rfl, fun _ => rfl, rfl⟩
  | succ n ih =>
    obtain ⟨i1, i2, i3⟩ := ih (fun i j1 j2 => h i j1 (by omega))
    have e := h n (by omega) (by omega)
    have w : ∀ b, wsN ρ x D b (n + 1) = wsN ρ x D' b (n + 1) := fun b => by simp only [wsN]; rw [i2, e]
    refine ⟨by simp only [usN]; rw [i1, e], w, ?_⟩
    simp only [okN]
    rw [i3, e, w]
theorem upS_ext {ρ : Rv} (hw : wfR ρ) (x : Int → Int) : extA (rL ρ).toNat (upS ρ x) := by
  intro D D' h
  obtain ⟨e1, -, e3⟩ := stwC_ext (ρ := ρ) (x := x) (rL ρ).toNat h
  have ec : stwC ρ x D = stwC ρ x D' := by unfold stwC; rw [e1, e3]
  have er : (fun l => if 0 ≤ l ∧ l < rL ρ ∧ x (20 + l) = -1 then D l else -1) = (fun l => if 0 ≤ l ∧ l < rL ρ ∧ x (20 + l) = -1 then D' l else -1) := by
    funext l
    by_cases c : 0 ≤ l ∧ l < rL ρ ∧ x (20 + l) = -1
    · rw [if_pos c, if_pos c, h l c.1 (by omega)]
    · rw [if_neg c, if_neg c]
  funext a
  unfold upS
  rw [ec, er]
section G1
variable {ρ : Rv} {x D : Int → Int}
theorem usN_b (hD : d4 D) (j : Nat) : 0 ≤ usN x D j ∧ usN x D j < 16 := by
  induction j with
  | zero => exact ⟨Int.le_refl _, by show (0 : Int) < 16; omega⟩
  | succ j ih =>
    simp only [usN]
    split
    · have := orb4 ih.1 ih.2 (hD j).1 (hD j).2
      exact ⟨this.1, this.2.1⟩
    · exact ih
theorem usN_mono (hD : d4 D) (j k : Nat) : membN (usN x D j) 8 ≤ membN (usN x D (j + k)) 8 := by
  induction k with
  | zero => exact Int.le_refl _
  | succ k ih =>
    refine Int.le_trans ih ?_
    show _ ≤ membN (usN x D (j + k + 1)) 8
    simp only [usN]
    split
    · have b := usN_b (x := x) hD (j + k)
      exact (orb4 b.1 b.2 (hD _).1 (hD _).2).2.2.2
    · exact Int.le_refl _
theorem usN_bit (hD : d4 D) {c : Int} (h1 : 0 ≤ c) (h2 : c < 4) (j : Nat) : bit (usN x D j) c = 1 ↔ ∃ i : Nat, i < j ∧ x (20 + i) = -1 ∧ D i = c := by
  induction j with
  | zero =>
    refine ⟨fun h => ?_, fun ⟨i, hi, _⟩ => by omega⟩
    have : bit (usN x D 0) c = 0 := by show bit 0 c = 0; unfold bit; simp
    omega
  | succ j ih =>
    have b := usN_b (x := x) hD j
    simp only [usN]
    by_cases hn : x (20 + j) = -1
    · rw [if_pos hn, (orb4 b.1 b.2 (hD j).1 (hD j).2).2.2.1 c h1 h2]
      by_cases hc : c = D j
      · rw [if_pos hc]
        exact ⟨fun _ => ⟨j, by omega, hn, hc.symm⟩, fun _ => rfl⟩
      · rw [if_neg hc, ih]
        constructor
        · rintro ⟨i, i1, i2, i3⟩; exact ⟨i, by omega, i2, i3⟩
        · rintro ⟨i, i1, i2, i3⟩
          by_cases hij : i = j
          · subst hij; exact absurd i3.symm hc
          · exact ⟨i, by omega, i2, i3⟩
    · rw [if_neg hn, ih]
      constructor
      · rintro ⟨i, i1, i2, i3⟩; exact ⟨i, by omega, i2, i3⟩
      · rintro ⟨i, i1, i2, i3⟩
        by_cases hij : i = j
        · subst hij; exact absurd i2 hn
        · exact ⟨i, by omega, i2, i3⟩
theorem wsN_mono (hw : wfR ρ) (b : Int) (j k : Nat) (hk : ((j + k : Nat) : Int) ≤ rL ρ) : wsN ρ x D b j ≤ wsN ρ x D b (j + k) := by
  induction k with
  | zero => exact Int.le_refl _
  | succ k ih =>
    have h1 := ih (by omega)
    have h2 := hw.2.2.2.2.2.2.2.2.2.2.1 ((j + k : Nat) : Int) (by omega) (by omega)
    refine Int.le_trans h1 ?_
    show _ ≤ wsN ρ x D b (j + k + 1)
    simp only [wsN]
    split <;> omega
theorem wsN_b (hw : wfR ρ) (b : Int) (j : Nat) (hj : (j : Int) ≤ rL ρ) : 0 ≤ wsN ρ x D b j ∧ wsN ρ x D b j ≤ 99 * j := by
  induction j with
  | zero => exact ⟨Int.le_refl _, Int.le_refl _⟩
  | succ j ih =>
    have h1 := ih (by omega)
    have h2 := hw.2.2.2.2.2.2.2.2.2.2.1 (j : Int) (by omega) (by omega)
    simp only [wsN]
    split <;> omega
theorem okN_01 (j : Nat) : okN ρ x D j = 0 ∨ okN ρ x D j = 1 := by
  cases j with
  | zero => exact Or.inr rfl
  | succ j =>
    simp only [okN]
    split
    · exact Or.inr rfl
    · exact Or.inl rfl
theorem okN_stop {j : Nat} (h : okN ρ x D j = 0) (k : Nat) : okN ρ x D (j + k) = 0 := by
  induction k with
  | zero => exact h
  | succ k ih =>
    show okN ρ x D (j + k + 1) = 0
    simp only [okN]
    rw [if_neg (by rw [ih]; rintro ⟨z, -⟩; omega)]
/-- the digits are allowed -/
def vdN (ρ : Rv) (x D : Int → Int) (j : Int) : Prop := (x (20 + j) = -1 → D j < rB ρ ∧ x (4 + D j) = 0) ∧ (¬ x (20 + j) = -1 → D j = 0)
theorem okN_fw (n : Nat) (h : okN ρ x D n = 1) : ∀ j : Nat, j < n → vdN ρ x D j ∧ (x (20 + j) = -1 → burd ρ x (D j) + wsN ρ x D (D j) n ≤ rBW ρ (D j)) := by
  induction n with
  | zero => intro j hj; omega
  | succ n ih =>
    intro j hj
    have hs : okN ρ x D n = 1 ∧ (x (20 + n) = -1 → D n < rB ρ ∧ x (4 + D n) = 0 ∧ burd ρ x (D n) + wsN ρ x D (D n) (n + 1) ≤ rBW ρ (D n)) ∧ (¬ x (20 + n) = -1 → D n = 0) := by
      simp only [okN] at h
      by_cases c : okN ρ x D n = 1 ∧ (x (20 + n) = -1 → D n < rB ρ ∧ x (4 + D n) = 0 ∧ burd ρ x (D n) + wsN ρ x D (D n) (n + 1) ≤ rBW ρ (D n)) ∧ (¬ x (20 + n) = -1 → D n = 0)
      · exact c
      · rw [if_neg c] at h; omega
    by_cases hjn : j = n
    · subst hjn
      exact ⟨⟨fun q => ⟨(hs.2.1 q).1, (hs.2.1 q).2.1⟩, hs.2.2⟩, fun q => (hs.2.1 q).2.2⟩
    · obtain ⟨i1, i2⟩ := ih hs.1 j (by omega)
      refine ⟨i1, fun q => ?_⟩
      have h2 := i2 q
      by_cases hc : x (20 + n) = -1 ∧ D n = D j
      · have := (hs.2.1 hc.1).2.2
        rw [hc.2] at this
        exact this
      · simp only [wsN]
        rw [if_neg hc]
        omega
theorem okN_bw (hw : wfR ρ) (n : Nat) (hn : (n : Int) ≤ rL ρ) (h : ∀ j : Nat, j < n → vdN ρ x D j ∧ (x (20 + j) = -1 → burd ρ x (D j) + wsN ρ x D (D j) n ≤ rBW ρ (D j))) : okN ρ x D n = 1 := by
  have : ∀ m : Nat, m ≤ n → okN ρ x D m = 1 := by
    intro m
    induction m with
    | zero => intro _; rfl
    | succ m ih =>
      intro hm
      obtain ⟨⟨q1, q2⟩, q3⟩ := h m (by omega)
      have h2 := wsN_mono (x := x) (D := D) hw (D m) (m + 1) (n - (m + 1)) (by omega)
      rw [show m + 1 + (n - (m + 1)) = n by omega] at h2
      have hq : x (20 + m) = -1 → burd ρ x (D m) + wsN ρ x D (D m) (m + 1) ≤ rBW ρ (D m) := fun z => by
        have h1 := q3 z
        omega
      simp only [okN]
      rw [if_pos ⟨ih (by omega), fun z => ⟨(q1 z).1, (q1 z).2, hq z⟩, q2⟩]
  exact this n (Nat.le_refl _)
/-- where the loads are then -/
def mvX (ρ : Rv) (x D : Int → Int) : Int → Int := fun z => if 20 ≤ z ∧ z < 20 + rL ρ ∧ x z = -1 then D (z - 20) else x z
theorem mvX_burd (hw : wfR ρ) {b : Int} (hb : 0 ≤ b) : burd ρ (mvX ρ x D) b = burd ρ x b + wsN ρ x D b (rL ρ).toNat := by
  have hl := hw.2.2.2.1
  unfold burd
  have : ∀ n : Nat, (n : Int) ≤ rL ρ → sumW ρ (mvX ρ x D) b n = sumW ρ x b n + wsN ρ x D b n := by
    intro n
    induction n with
    | zero => intro _; rfl
    | succ n ih =>
      intro hn
      simp only [sumW, wsN]
      rw [ih (by omega)]
      unfold mvX
      by_cases hq : x (20 + n) = -1
      · rw [if_pos (show 20 ≤ 20 + (n : Int) ∧ 20 + (n : Int) < 20 + rL ρ ∧ x (20 + n) = -1 from ⟨by omega, by omega, hq⟩), if_neg (show ¬ x (20 + n) = b by omega), show 20 + (n : Int) - 20 = n by omega]
        by_cases hd : D n = b
        · rw [if_pos hd, if_pos ⟨hq, hd⟩]; omega
        · rw [if_neg hd, if_neg (fun z => hd z.2)]; omega
      · rw [if_neg (show ¬ (20 ≤ 20 + (n : Int) ∧ 20 + (n : Int) < 20 + rL ρ ∧ x (20 + n) = -1) from fun z => hq z.2.2), if_neg (show ¬ (x (20 + n) = -1 ∧ D n = b) from fun z => hq z.1)]
        omega
  exact this _ (by omega)
theorem mvX_wf (hw : wfR ρ) (hx : wfS ρ x) (hv : ∀ j : Nat, (j : Int) < rL ρ → vdN ρ x D j) (hD : d4 D) : wfS ρ (mvX ρ x D) := by
  have hB := hw.2.2.1
  refine ⟨fun b b1 b2 => ?_, fun l l1 l2 => ?_, ?_⟩
  · have h := hx.1 b b1 b2
    unfold mvX
    rw [if_neg (by omega), if_neg (by omega), if_neg (by omega), if_neg (by omega)]
    exact h
  · have h := hx.2.1 l l1 l2
    unfold mvX
    by_cases hq : x (20 + l) = -1
    · rw [if_pos ⟨by omega, by omega, hq⟩, show 20 + l - 20 = l by omega]
      have := hv l.toNat (by omega)
      rw [show ((l.toNat : Nat) : Int) = l by omega] at this
      have h2 := hD l
      exact ⟨by omega, (this.1 hq).1⟩
    · rw [if_neg (fun z => hq z.2.2)]
      exact h
  · have h := hx.2.2
    unfold mvX
    have hl := hw.2.2.2.1
    rw [if_neg (by omega)]
    exact h
end G1

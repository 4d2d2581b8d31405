/-! LAYER 3, the component: frames by labels; states; lists; the river -/
set_option maxRecDepth 100000
/-- a bind, as a rule that is no rfl (the kernel runs away else) -/
theorem obs {α β : Type} (a : α) (f : α → Option β) : (some a).bind f = f a := Eq.trans (Option.bind_some a f) (Eq.refl _)
/-- an element of an int array is written -/
def yw (y : yS) (a i : Nat) (v : Int32) : yS := sA y a (upd (ya y a) i v)
theorem yw_get {y : yS} {a i a' j : Nat} {v : Int32} : ya (yw y a i v) a' j = if a' = a ∧ j = i then v else ya y a' j := by
  show va_up (ya y) a (upd (ya y a) i v) a' j = _
  unfold va_up
  by_cases h : a' = a
  · subst h
    simp only [if_true, true_and, upd]
  · simp only [if_neg h, h, false_and, if_false]
theorem yw_ne {y : yS} {a i a' : Nat} {v : Int32} (h : ¬ a' = a) : ya (yw y a i v) a' = ya y a' := if_neg h
theorem sF_get {y : yS} {a k a' j : Nat} {v : Int32} : yf (sF y a k v) a' j = if a' = a ∧ j = k then v else yf y a' j := by
  show va_up (yf y) a (upd (yf y a) k v) a' j = _
  unfold va_up
  by_cases h : a' = a
  · subst h
    simp only [if_true, true_and, upd]
  · simp only [if_neg h, h, false_and, if_false]
section RW
variable {y : yS} {G : ai_G} {a b i k c : Nat} {v w : Int32}
theorem gR_yw : gR c k (yw y b i v) a = gR c k y a := rfl
theorem gI_yw : gI c k (yw y b i v) a = gI c k y a := rfl
theorem gN_yw : gN c k (yw y b i v) a = gN c k y a := rfl
theorem ck_yw : ck c (yw y b i v) a = ck c y a := rfl
theorem aL_yw : aL G (yw y b i v) a = aL G y a := rfl
theorem lget_yw : fy_List_get G (yw y b i v) a w = fy_List_get G y a w := rfl
theorem lsize_yw : fy_List_size G (yw y b i v) a = fy_List_size G y a := rfl
theorem aI_yw (h : ¬ a = b) : aI (yw y b i v) a w = aI y a w := by
  unfold aI
  rw [yw_ne h]
  rfl
theorem aB_yw (h : ¬ a = b) : aB G (yw y b i v) a w = aB G y a w := by
  unfold aB
  rw [yw_ne h]
  rfl
theorem gR_sF : gR c k (sF y b i v) a = gR c k y a := rfl
theorem gN_sF : gN c k (sF y b i v) a = gN c k y a := rfl
theorem ck_sF : ck c (sF y b i v) a = ck c y a := rfl
theorem aL_sF : aL G (sF y b i v) a = aL G y a := rfl
theorem aI_sF : aI (sF y b i v) a w = aI y a w := rfl
theorem aB_sF : aB G (sF y b i v) a w = aB G y a w := rfl
theorem gI_sF (h : ¬ (a = b ∧ k = i)) : gI c k (sF y b i v) a = gI c k y a := by
  unfold gI
  rw [sF_get, if_neg h]
  rfl
theorem gI_sFk (h : Nat.beq k i = false) : gI c k (sF y b i v) a = gI c k y a := gI_sF (fun z => Nat.ne_of_beq_eq_false h z.2)
theorem gI_sFe (h : yt y a = some (.inr c)) : gI c k (sF y a k v) a = some v := by
  have e : gI c k (sF y a k v) a = some (yf (sF y a k v) a k) := if_pos h
  rw [e, sF_get, if_pos ⟨rfl, rfl⟩]
end RW
theorem aI_n (n : Nat) {y : yS} {a : Nat} {z : Int} (ht : yt y a = some (.inl (0, n))) (h1 : 0 ≤ z) (h2 : z < n) (h3 : n < 2147483648) : aI y a (iI z) = some (ya y a z.toNat) := by
  unfold aI
  rw [ht]
  simp only
  rw [if_pos ⟨trivial, inb_i h1 h2 h3⟩, iI_clamp h1 (by omega)]
theorem wA_n (n : Nat) {y : yS} {a : Nat} {z : Int} {v : Int32} (ht : yt y a = some (.inl (0, n))) (h1 : 0 ≤ z) (h2 : z < n) (h3 : n < 2147483648) : wA y a (iI z) v = some (yw y a z.toNat v) := by
  unfold wA
  rw [ht]
  simp only
  rw [if_pos ⟨trivial, inb_i h1 h2 h3⟩, iI_clamp h1 (by omega)]
  rfl
theorem aI_e (n : Nat) {y : yS} {a : Nat} {z : Int} {v : Int32} (ht : yt y a = some (.inl (0, n))) (h1 : 0 ≤ z) (h2 : z < n) (h3 : n < 2147483648) : aI (yw y a z.toNat v) a (iI z) = some v := by
  rw [aI_n n (y := yw y a z.toNat v) ht h1 h2 h3, yw_get, if_pos ⟨rfl, rfl⟩]
theorem aB_n {G : ai_G} (t n : Nat) {y : yS} {a : Nat} {z : Int} (ht : yt y a = some (.inl (t, n))) (h0 : t = 1 ∨ t = 2) (h1 : 0 ≤ z) (h2 : z < n) (h3 : n < 2147483648) : aB G y a (iI z) = some (ya y a z.toNat) := by
  unfold aB
  rw [ht]
  simp only
  rw [if_pos ⟨h0, inb_i h1 h2 h3⟩, iI_clamp h1 (by omega)]
/-- FRAMES: by labels (O a): below the next address nothing but cells of the labels L has changed; int fields have the label + 100, those of label 5 (the object itself) 200 + their number; c cells, d slots are new at most -/
def lbF (O : Nat → Nat) (a k : Nat) : Nat := if O a = 5 then 200 + k else 100 + O a
def yF (O : Nat → Nat) (L : List Nat) (c d : Nat) (y y' : yS) : Prop := (yn y ≤ yn y' ∧ yn y' ≤ yn y + c ∧ yu y' ≤ yu y + d) ∧ (∀ a, a < yn y → yt y' a = yt y a) ∧ (∀ a, a < yn y → L.contains (O a) = false → ya y' a = ya y a ∧ ye y' a = ye y a ∧ yr y' a = yr y a ∧ yj y' a = yj y a) ∧ (∀ a k, a < yn y → L.contains (lbF O a k) = false → yf y' a k = yf y a k)
section YF
variable {O : Nat → Nat} {L : List Nat} {c d : Nat} {y y1 y2 : yS}
theorem yF.refl : yF O L 0 0 y y := ⟨⟨Nat.le_refl _, Nat.le_refl _, Nat.le_refl _⟩, fun _ _ => rfl, fun _ _ _ => ⟨rfl, rfl, rfl, rfl⟩, fun _ _ _ _ => rfl⟩
theorem yF.trans {c1 d1 : Nat} (a : yF O L c d y y1) (b : yF O L c1 d1 y1 y2) : yF O L (c + c1) (d + d1) y y2 := by
  obtain ⟨⟨a1, a2, a3⟩, a4, a5, a6⟩ := a
  obtain ⟨⟨b1, b2, b3⟩, b4, b5, b6⟩ := b
  refine ⟨⟨by omega, by omega, by omega⟩, fun q hq => (b4 q (by omega)).trans (a4 q hq), fun q hq hl => ?_, fun q k hq hl => (b6 q k (by omega) hl).trans (a6 q k hq hl)⟩
  obtain ⟨u1, u2, u3, u4⟩ := a5 q hq hl
  obtain ⟨v1, v2, v3, v4⟩ := b5 q (by omega) hl
  exact ⟨v1.trans u1, v2.trans u2, v3.trans u3, v4.trans u4⟩
theorem yF.t0 (a : yF O L 0 0 y y1) (b : yF O L 0 0 y1 y2) : yF O L 0 0 y y2 := a.trans b
theorem yF.mono {L' : List Nat} {c' d' : Nat} (a : yF O L c d y y1) (h : L.all (fun k => L'.contains k) = true) (hc : c ≤ c') (hd : d ≤ d') : yF O L' c' d' y y1 := by
  obtain ⟨⟨a1, a2, a3⟩, a4, a5, a6⟩ := a
  have key : ∀ k, L'.contains k = false → L.contains k = false := by
    intro k hk
    cases e : L.contains k with
    | false => rfl
    | true =>
      have := List.all_eq_true.mp h k (by simpa using e)
      rw [hk] at this
      cases this
  exact ⟨⟨a1, by omega, by omega⟩, a4, fun q hq hl => a5 q hq (key _ hl), fun q k hq hl => a6 q k hq (key _ hl)⟩
theorem yF.m0 {L' : List Nat} (a : yF O L c d y y1) (h : L.all (fun k => L'.contains k) = true) : yF O L' c d y y1 := a.mono h (Nat.le_refl _) (Nat.le_refl _)
theorem yF.rel {O' : Nat → Nat} (a : yF O L c d y y1) (h : ∀ q, q < yn y → O' q = O q) : yF O' L c d y y1 := by
  obtain ⟨a1, a4, a5, a6⟩ := a
  refine ⟨a1, a4, fun q hq hl => a5 q hq (by rw [← h q hq]; exact hl), fun q k hq hl => a6 q k hq ?_⟩
  unfold lbF at *
  rw [← h q hq]
  exact hl
theorem yF.nx (f : yF O L c d y y1) : yn y ≤ yn y1 := f.1.1
theorem yF.tag {a : Nat} (f : yF O L c d y y1) (h : a < yn y) : yt y1 a = yt y a := f.2.1 a h
theorem yF.arr {a : Nat} (f : yF O L c d y y1) (h : a < yn y) (hl : L.contains (O a) = false) : ya y1 a = ya y a := (f.2.2.1 a h hl).1
theorem yF.els {a : Nat} (f : yF O L c d y y1) (h : a < yn y) (hl : L.contains (O a) = false) : ye y1 a = ye y a := (f.2.2.1 a h hl).2.1
theorem yF.ref {a : Nat} (f : yF O L c d y y1) (h : a < yn y) (hl : L.contains (O a) = false) : yr y1 a = yr y a := (f.2.2.1 a h hl).2.2.1
theorem yF.lng {a : Nat} (f : yF O L c d y y1) (h : a < yn y) (hl : L.contains (O a) = false) : yj y1 a = yj y a := (f.2.2.1 a h hl).2.2.2
theorem yF.int {a k : Nat} (f : yF O L c d y y1) (h : a < yn y) (hl : L.contains (lbF O a k) = false) : yf y1 a k = yf y a k := f.2.2.2 a k h hl
theorem yF.w {a i : Nat} {v : Int32} (f : yF O L c d y y1) (h : L.contains (O a) = true) : yF O L c d y (yw y1 a i v) := by
  obtain ⟨a1, a4, a5, a6⟩ := f
  refine ⟨a1, a4, fun q hq hl => ?_, a6⟩
  have hne : ¬ q = a := fun e => by rw [e, h] at hl; cases hl
  obtain ⟨u1, u2, u3, u4⟩ := a5 q hq hl
  exact ⟨Eq.trans (if_neg hne) u1, u2, u3, u4⟩
theorem yF.sa {a : Nat} {g : Nat → Int32} (f : yF O L c d y y1) (h : L.contains (O a) = true) : yF O L c d y (sA y1 a g) := by
  obtain ⟨a1, a4, a5, a6⟩ := f
  refine ⟨a1, a4, fun q hq hl => ?_, a6⟩
  have hne : ¬ q = a := fun e => by rw [e, h] at hl; cases hl
  obtain ⟨u1, u2, u3, u4⟩ := a5 q hq hl
  exact ⟨Eq.trans (if_neg hne) u1, u2, u3, u4⟩
theorem yF.se {a : Nat} {g : Nat → Option Nat} (f : yF O L c d y y1) (h : L.contains (O a) = true) : yF O L c d y (sE y1 a g) := by
  obtain ⟨a1, a4, a5, a6⟩ := f
  refine ⟨a1, a4, fun q hq hl => ?_, a6⟩
  have hne : ¬ q = a := fun e => by rw [e, h] at hl; cases hl
  obtain ⟨u1, u2, u3, u4⟩ := a5 q hq hl
  exact ⟨u1, Eq.trans (if_neg hne) u2, u3, u4⟩
theorem yF.sr {a k : Nat} {g : Option Nat} (f : yF O L c d y y1) (h : L.contains (O a) = true) : yF O L c d y (sR y1 a k g) := by
  obtain ⟨a1, a4, a5, a6⟩ := f
  refine ⟨a1, a4, fun q hq hl => ?_, a6⟩
  have hne : ¬ q = a := fun e => by rw [e, h] at hl; cases hl
  obtain ⟨u1, u2, u3, u4⟩ := a5 q hq hl
  exact ⟨u1, u2, Eq.trans (if_neg hne) u3, u4⟩
theorem yF.sj {a k : Nat} {g : Int64} (f : yF O L c d y y1) (h : L.contains (O a) = true) : yF O L c d y (sJ y1 a k g) := by
  obtain ⟨a1, a4, a5, a6⟩ := f
  refine ⟨a1, a4, fun q hq hl => ?_, a6⟩
  have hne : ¬ q = a := fun e => by rw [e, h] at hl; cases hl
  obtain ⟨u1, u2, u3, u4⟩ := a5 q hq hl
  exact ⟨u1, u2, u3, Eq.trans (if_neg hne) u4⟩
theorem yF.sf {a k : Nat} {v : Int32} (f : yF O L c d y y1) (h : L.contains (lbF O a k) = true) : yF O L c d y (sF y1 a k v) := by
  obtain ⟨a1, a4, a5, a6⟩ := f
  refine ⟨a1, a4, a5, fun q j hq hl => ?_⟩
  rw [sF_get, if_neg]
  · exact a6 q j hq hl
  · rintro ⟨rfl, rfl⟩
    rw [h] at hl
    cases hl
theorem yF.no {k : Nat} (f : yF O L c d y y1) : yF O L (c + 1) (d + ai_nf k) y (nO y1 k) := by
  obtain ⟨⟨a1, a2, a3⟩, a4, a5, a6⟩ := f
  have hne : ∀ q, q < yn y → ¬ q = yn y1 := fun q hq => by omega
  refine ⟨⟨?_, ?_, ?_⟩, fun q hq => Eq.trans (if_neg (hne q hq)) (a4 q hq), fun q hq hl => ?_, fun q j hq hl => Eq.trans (congrFun (if_neg (hne q hq)) j) (a6 q j hq hl)⟩
  · show yn y ≤ yn y1 + 1
    omega
  · show yn y1 + 1 ≤ _
    omega
  · show yu y1 + ai_nf k ≤ _
    omega
  · obtain ⟨u1, u2, u3, u4⟩ := a5 q hq hl
    exact ⟨u1, u2, Eq.trans (if_neg (hne q hq)) u3, Eq.trans (if_neg (hne q hq)) u4⟩
theorem yF.na {k n : Nat} (f : yF O L c d y y1) : yF O L (c + 1) (d + n) y (nA y1 k n) := by
  obtain ⟨⟨a1, a2, a3⟩, a4, a5, a6⟩ := f
  have hne : ∀ q, q < yn y → ¬ q = yn y1 := fun q hq => by omega
  refine ⟨⟨?_, ?_, ?_⟩, fun q hq => Eq.trans (if_neg (hne q hq)) (a4 q hq), fun q hq hl => ?_, fun q j hq hl => a6 q j hq hl⟩
  · show yn y ≤ yn y1 + 1
    omega
  · show yn y1 + 1 ≤ _
    omega
  · show yu y1 + n ≤ _
    omega
  · obtain ⟨u1, u2, u3, u4⟩ := a5 q hq hl
    exact ⟨Eq.trans (if_neg (hne q hq)) u1, Eq.trans (if_neg (hne q hq)) u2, u3, u4⟩
end YF
/-! STATES: the object at a (label lab), its six arrays behind it (label lab + 20) -/
def shY (O : Nat → Nat) (y : yS) (a lab : Nat) : Prop := yt y a = some (.inr 2) ∧ a + 6 < yn y ∧ O a = lab ∧ (∀ i, 1 ≤ i → i ≤ 6 → O (a + i) = lab + 20) ∧ (∀ k, k < 6 → yr y a k = some (a + 1 + k)) ∧ (∀ k, k < 5 → yt y (a + 1 + k) = some (.inl (0, 4))) ∧ yt y (a + 6) = some (.inl (0, 7))
def vlY (y : yS) (n : Int) (a : Nat) (x : Int → Int) : Prop := (∀ b, 0 ≤ b → b < 4 → ya y (a + 1) b.toNat = iI (x b) ∧ ya y (a + 2) b.toNat = iI (x (4 + b)) ∧ ya y (a + 3) b.toNat = iI (x (8 + b)) ∧ ya y (a + 4) b.toNat = iI (x (12 + b)) ∧ ya y (a + 5) b.toNat = iI (x (16 + b))) ∧ (∀ l, 0 ≤ l → l < n → ya y (a + 6) l.toNat = iI (x (20 + l))) ∧ yf y a 6 = iI (x 27)
section SH
variable {O : Nat → Nat} {L : List Nat} {c d : Nat} {y y1 : yS} {a lab : Nat} {n : Int} {x : Int → Int}
theorem shY.fr (h : shY O y a lab) (f : yF O L c d y y1) (hl : L.contains lab = false) : shY O y1 a lab := by
  obtain ⟨h1, h2, h3, h4, h5, h6, h7⟩ := h
  have hn := f.nx
  refine ⟨by rw [f.tag (by omega)]; exact h1, by omega, h3, h4, fun k hk => ?_, fun k hk => ?_, ?_⟩
  · rw [f.ref (by omega) (by rw [h3]; exact hl)]; exact h5 k hk
  · rw [f.tag (by omega)]; exact h6 k hk
  · rw [f.tag (by omega)]; exact h7
theorem vlY.fr (hv : vlY y n a x) (h : shY O y a lab) (f : yF O L c d y y1) (hl : L.contains (lab + 20) = false) (hl2 : L.contains (100 + lab) = false) (h5 : Nat.beq lab 5 = false) : vlY y1 n a x := by
  obtain ⟨h1, h2, h3, h4, -⟩ := h
  obtain ⟨v1, v2, v3⟩ := hv
  have e : ∀ i, 1 ≤ i → i ≤ 6 → ya y1 (a + i) = ya y (a + i) := fun i i1 i2 => f.arr (by omega) (by rw [h4 i i1 i2]; exact hl)
  refine ⟨fun b b1 b2 => ?_, fun l l1 l2 => ?_, ?_⟩
  · rw [e 1 (by omega) (by omega), e 2 (by omega) (by omega), e 3 (by omega) (by omega), e 4 (by omega) (by omega), e 5 (by omega) (by omega)]
    exact v1 b b1 b2
  · rw [e 6 (by omega) (by omega)]
    exact v2 l l1 l2
  · rw [f.int (by omega) (by unfold lbF; rw [h3, if_neg (Nat.ne_of_beq_eq_false h5)]; exact hl2)]
    exact v3
theorem vlY.eq {x' : Int → Int} (hv : vlY y n a x) (h : x = x') : vlY y n a x' := h ▸ hv
theorem s_c (h : shY O y a lab) : ck 2 y a = some () := if_pos h.1

theorem s_0 (h : shY O y a lab) : gR 2 0 y a = some (a + 1) := by
  unfold gR
  rw [if_pos h.1]
  exact h.2.2.2.2.1 0 (by omega)
theorem s_1 (h : shY O y a lab) : gR 2 1 y a = some (a + 2) := by
  unfold gR
  rw [if_pos h.1]
  exact h.2.2.2.2.1 1 (by omega)
theorem s_2 (h : shY O y a lab) : gR 2 2 y a = some (a + 3) := by
  unfold gR
  rw [if_pos h.1]
  exact h.2.2.2.2.1 2 (by omega)
theorem s_3 (h : shY O y a lab) : gR 2 3 y a = some (a + 4) := by
  unfold gR
  rw [if_pos h.1]
  exact h.2.2.2.2.1 3 (by omega)
theorem s_4 (h : shY O y a lab) : gR 2 4 y a = some (a + 5) := by
  unfold gR
  rw [if_pos h.1]
  exact h.2.2.2.2.1 4 (by omega)
theorem s_5 (h : shY O y a lab) : gR 2 5 y a = some (a + 6) := by
  unfold gR
  rw [if_pos h.1]
  exact h.2.2.2.2.1 5 (by omega)
theorem s_t (h : shY O y a lab) {k : Nat} (hk : k < 5) : yt y (a + 1 + k) = some (.inl (0, 4)) := h.2.2.2.2.2.1 k hk
theorem s_t7 (h : shY O y a lab) : yt y (a + 6) = some (.inl (0, 7)) := h.2.2.2.2.2.2
theorem s_a0 (h : shY O y a lab) (hv : vlY y n a x) {b : Int} (h1 : 0 ≤ b) (h2 : b < 4) : aI y (a + 1) (iI b) = some (iI (x b)) := by
  rw [aI_n 4 (h.2.2.2.2.2.1 0 (by omega)) h1 h2 (by omega)]
  exact congrArg some ((hv.1 b h1 h2).1)
theorem s_w0 (h : shY O y a lab) {y' : yS} {b : Int} {v : Int32} (e : yt y' = yt y) (h1 : 0 ≤ b) (h2 : b < 4) : wA y' (a + 1) (iI b) v = some (yw y' (a + 1) b.toNat v) :=
  wA_n 4 (by rw [e]; exact h.2.2.2.2.2.1 0 (by omega)) h1 h2 (by omega)
theorem s_e0 (h : shY O y a lab) {y' : yS} {b : Int} {v : Int32} (e : yt y' = yt y) (h1 : 0 ≤ b) (h2 : b < 4) : aI (yw y' (a + 1) b.toNat v) (a + 1) (iI b) = some v :=
  aI_e 4 (by rw [e]; exact h.2.2.2.2.2.1 0 (by omega)) h1 h2 (by omega)
theorem vlY.w0 (h : vlY y n a x) {b v : Int} (h1 : 0 ≤ b) (h2 : b < 4) : vlY (yw y (a + 1) b.toNat (iI v)) n a (upI x b v) := by
  obtain ⟨g1, g2, g3⟩ := h
  refine ⟨fun e e1 e2 => ?_, fun l l1 l2 => ?_, ?_⟩
  · obtain ⟨p0, p1, p2, p3, p4⟩ := g1 e e1 e2
    simp only [yw_get, upI]
    refine ⟨?_, ?_, ?_, ?_, ?_⟩
    · by_cases he : e = b
      · subst he
        rw [if_pos ⟨trivial, rfl⟩, if_pos rfl]
      · rw [if_neg (by omega), if_neg (by omega)]
        exact p0
    · rw [if_neg (by omega), if_neg (by omega)]
      exact p1
    · rw [if_neg (by omega), if_neg (by omega)]
      exact p2
    · rw [if_neg (by omega), if_neg (by omega)]
      exact p3
    · rw [if_neg (by omega), if_neg (by omega)]
      exact p4
  · simp only [yw_get, upI]
    rw [if_neg (by omega), if_neg (by omega)]
    exact g2 l l1 l2
  · unfold upI
    rw [if_neg (by omega)]
    exact g3
theorem s_a1 (h : shY O y a lab) (hv : vlY y n a x) {b : Int} (h1 : 0 ≤ b) (h2 : b < 4) : aI y (a + 2) (iI b) = some (iI (x (4 + b))) := by
  rw [aI_n 4 (h.2.2.2.2.2.1 1 (by omega)) h1 h2 (by omega)]
  exact congrArg some ((hv.1 b h1 h2).2.1)
theorem s_w1 (h : shY O y a lab) {y' : yS} {b : Int} {v : Int32} (e : yt y' = yt y) (h1 : 0 ≤ b) (h2 : b < 4) : wA y' (a + 2) (iI b) v = some (yw y' (a + 2) b.toNat v) :=
  wA_n 4 (by rw [e]; exact h.2.2.2.2.2.1 1 (by omega)) h1 h2 (by omega)
theorem s_e1 (h : shY O y a lab) {y' : yS} {b : Int} {v : Int32} (e : yt y' = yt y) (h1 : 0 ≤ b) (h2 : b < 4) : aI (yw y' (a + 2) b.toNat v) (a + 2) (iI b) = some v :=
  aI_e 4 (by rw [e]; exact h.2.2.2.2.2.1 1 (by omega)) h1 h2 (by omega)
theorem vlY.w1 (h : vlY y n a x) {b v : Int} (h1 : 0 ≤ b) (h2 : b < 4) : vlY (yw y (a + 2) b.toNat (iI v)) n a (upI x (4 + b) v) := by
  obtain ⟨g1, g2, g3⟩ := h
  refine ⟨fun e e1 e2 => ?_, fun l l1 l2 => ?_, ?_⟩
  · obtain ⟨p0, p1, p2, p3, p4⟩ := g1 e e1 e2
    simp only [yw_get, upI]
    refine ⟨?_, ?_, ?_, ?_, ?_⟩
    · rw [if_neg (by omega), if_neg (by omega)]
      exact p0
    · by_cases he : e = b
      · subst he
        rw [if_pos ⟨trivial, rfl⟩, if_pos rfl]
      · rw [if_neg (by omega), if_neg (by omega)]
        exact p1
    · rw [if_neg (by omega), if_neg (by omega)]
      exact p2
    · rw [if_neg (by omega), if_neg (by omega)]
      exact p3
    · rw [if_neg (by omega), if_neg (by omega)]
      exact p4
  · simp only [yw_get, upI]
    rw [if_neg (by omega), if_neg (by omega)]
    exact g2 l l1 l2
  · unfold upI
    rw [if_neg (by omega)]
    exact g3
theorem s_a2 (h : shY O y a lab) (hv : vlY y n a x) {b : Int} (h1 : 0 ≤ b) (h2 : b < 4) : aI y (a + 3) (iI b) = some (iI (x (8 + b))) := by
  rw [aI_n 4 (h.2.2.2.2.2.1 2 (by omega)) h1 h2 (by omega)]
  exact congrArg some ((hv.1 b h1 h2).2.2.1)
theorem s_w2 (h : shY O y a lab) {y' : yS} {b : Int} {v : Int32} (e : yt y' = yt y) (h1 : 0 ≤ b) (h2 : b < 4) : wA y' (a + 3) (iI b) v = some (yw y' (a + 3) b.toNat v) :=
  wA_n 4 (by rw [e]; exact h.2.2.2.2.2.1 2 (by omega)) h1 h2 (by omega)
theorem s_e2 (h : shY O y a lab) {y' : yS} {b : Int} {v : Int32} (e : yt y' = yt y) (h1 : 0 ≤ b) (h2 : b < 4) : aI (yw y' (a + 3) b.toNat v) (a + 3) (iI b) = some v :=
  aI_e 4 (by rw [e]; exact h.2.2.2.2.2.1 2 (by omega)) h1 h2 (by omega)
theorem vlY.w2 (h : vlY y n a x) {b v : Int} (h1 : 0 ≤ b) (h2 : b < 4) : vlY (yw y (a + 3) b.toNat (iI v)) n a (upI x (8 + b) v) := by
  obtain ⟨g1, g2, g3⟩ := h
  refine ⟨fun e e1 e2 => ?_, fun l l1 l2 => ?_, ?_⟩
  · obtain ⟨p0, p1, p2, p3, p4⟩ := g1 e e1 e2
    simp only [yw_get, upI]
    refine ⟨?_, ?_, ?_, ?_, ?_⟩
    · rw [if_neg (by omega), if_neg (by omega)]
      exact p0
    · rw [if_neg (by omega), if_neg (by omega)]
      exact p1
    · by_cases he : e = b
      · subst he
        rw [if_pos ⟨trivial, rfl⟩, if_pos rfl]
      · rw [if_neg (by omega), if_neg (by omega)]
        exact p2
    · rw [if_neg (by omega), if_neg (by omega)]
      exact p3
    · rw [if_neg (by omega), if_neg (by omega)]
      exact p4
  · simp only [yw_get, upI]
    rw [if_neg (by omega), if_neg (by omega)]
    exact g2 l l1 l2
  · unfold upI
    rw [if_neg (by omega)]
    exact g3
theorem s_a3 (h : shY O y a lab) (hv : vlY y n a x) {b : Int} (h1 : 0 ≤ b) (h2 : b < 4) : aI y (a + 4) (iI b) = some (iI (x (12 + b))) := by
  rw [aI_n 4 (h.2.2.2.2.2.1 3 (by omega)) h1 h2 (by omega)]
  exact congrArg some ((hv.1 b h1 h2).2.2.2.1)
theorem s_w3 (h : shY O y a lab) {y' : yS} {b : Int} {v : Int32} (e : yt y' = yt y) (h1 : 0 ≤ b) (h2 : b < 4) : wA y' (a + 4) (iI b) v = some (yw y' (a + 4) b.toNat v) :=
  wA_n 4 (by rw [e]; exact h.2.2.2.2.2.1 3 (by omega)) h1 h2 (by omega)
theorem s_e3 (h : shY O y a lab) {y' : yS} {b : Int} {v : Int32} (e : yt y' = yt y) (h1 : 0 ≤ b) (h2 : b < 4) : aI (yw y' (a + 4) b.toNat v) (a + 4) (iI b) = some v :=
  aI_e 4 (by rw [e]; exact h.2.2.2.2.2.1 3 (by omega)) h1 h2 (by omega)
theorem vlY.w3 (h : vlY y n a x) {b v : Int} (h1 : 0 ≤ b) (h2 : b < 4) : vlY (yw y (a + 4) b.toNat (iI v)) n a (upI x (12 + b) v) := by
  obtain ⟨g1, g2, g3⟩ := h
  refine ⟨fun e e1 e2 => ?_, fun l l1 l2 => ?_, ?_⟩
  · obtain ⟨p0, p1, p2, p3, p4⟩ := g1 e e1 e2
    simp only [yw_get, upI]
    refine ⟨?_, ?_, ?_, ?_, ?_⟩
    · rw [if_neg (by omega), if_neg (by omega)]
      exact p0
    · rw [if_neg (by omega), if_neg (by omega)]
      exact p1
    · rw [if_neg (by omega), if_neg (by omega)]
      exact p2
    · by_cases he : e = b
      · subst he
        rw [if_pos ⟨trivial, rfl⟩, if_pos rfl]
      · rw [if_neg (by omega), if_neg (by omega)]
        exact p3
    · rw [if_neg (by omega), if_neg (by omega)]
      exact p4
  · simp only [yw_get, upI]
    rw [if_neg (by omega), if_neg (by omega)]
    exact g2 l l1 l2
  · unfold upI
    rw [if_neg (by omega)]
    exact g3
theorem s_a4 (h : shY O y a lab) (hv : vlY y n a x) {b : Int} (h1 : 0 ≤ b) (h2 : b < 4) : aI y (a + 5) (iI b) = some (iI (x (16 + b))) := by
  rw [aI_n 4 (h.2.2.2.2.2.1 4 (by omega)) h1 h2 (by omega)]
  exact congrArg some ((hv.1 b h1 h2).2.2.2.2)
theorem s_w4 (h : shY O y a lab) {y' : yS} {b : Int} {v : Int32} (e : yt y' = yt y) (h1 : 0 ≤ b) (h2 : b < 4) : wA y' (a + 5) (iI b) v = some (yw y' (a + 5) b.toNat v) :=
  wA_n 4 (by rw [e]; exact h.2.2.2.2.2.1 4 (by omega)) h1 h2 (by omega)
theorem s_e4 (h : shY O y a lab) {y' : yS} {b : Int} {v : Int32} (e : yt y' = yt y) (h1 : 0 ≤ b) (h2 : b < 4) : aI (yw y' (a + 5) b.toNat v) (a + 5) (iI b) = some v :=
  aI_e 4 (by rw [e]; exact h.2.2.2.2.2.1 4 (by omega)) h1 h2 (by omega)
theorem vlY.w4 (h : vlY y n a x) {b v : Int} (h1 : 0 ≤ b) (h2 : b < 4) : vlY (yw y (a + 5) b.toNat (iI v)) n a (upI x (16 + b) v) := by
  obtain ⟨g1, g2, g3⟩ := h
  refine ⟨fun e e1 e2 => ?_, fun l l1 l2 => ?_, ?_⟩
  · obtain ⟨p0, p1, p2, p3, p4⟩ := g1 e e1 e2
    simp only [yw_get, upI]
    refine ⟨?_, ?_, ?_, ?_, ?_⟩
    · rw [if_neg (by omega), if_neg (by omega)]
      exact p0
    · rw [if_neg (by omega), if_neg (by omega)]
      exact p1
    · rw [if_neg (by omega), if_neg (by omega)]
      exact p2
    · rw [if_neg (by omega), if_neg (by omega)]
      exact p3
    · by_cases he : e = b
      · subst he
        rw [if_pos ⟨trivial, rfl⟩, if_pos rfl]
      · rw [if_neg (by omega), if_neg (by omega)]
        exact p4
  · simp only [yw_get, upI]
    rw [if_neg (by omega), if_neg (by omega)]
    exact g2 l l1 l2
  · unfold upI
    rw [if_neg (by omega)]
    exact g3
theorem s_a5 (h : shY O y a lab) (hv : vlY y n a x) (hn : n ≤ 7) {l : Int} (h1 : 0 ≤ l) (h2 : l < n) : aI y (a + 6) (iI l) = some (iI (x (20 + l))) := by
  rw [aI_n 7 (s_t7 h) h1 (by omega) (by omega)]
  exact congrArg some (hv.2.1 l h1 h2)
theorem s_w5 (h : shY O y a lab) {y' : yS} {b : Int} {v : Int32} (e : yt y' = yt y) (h1 : 0 ≤ b) (h2 : b < 7) : wA y' (a + 6) (iI b) v = some (yw y' (a + 6) b.toNat v) :=
  wA_n 7 (by rw [e]; exact s_t7 h) h1 h2 (by omega)
theorem vlY.w5 (h : vlY y n a x) {b v : Int} (h1 : 0 ≤ b) (h2 : b < 7) : vlY (yw y (a + 6) b.toNat (iI v)) n a (upI x (20 + b) v) := by
  obtain ⟨g1, g2, g3⟩ := h
  refine ⟨fun e e1 e2 => ?_, fun l l1 l2 => ?_, ?_⟩
  · obtain ⟨p0, p1, p2, p3, p4⟩ := g1 e e1 e2
    simp only [yw_get, upI]
    refine ⟨?_, ?_, ?_, ?_, ?_⟩
    · rw [if_neg (by omega), if_neg (by omega)]; exact p0
    · rw [if_neg (by omega), if_neg (by omega)]; exact p1
    · rw [if_neg (by omega), if_neg (by omega)]; exact p2
    · rw [if_neg (by omega), if_neg (by omega)]; exact p3
    · rw [if_neg (by omega), if_neg (by omega)]; exact p4
  · simp only [yw_get, upI]
    by_cases he : l = b
    · subst he
      rw [if_pos ⟨trivial, rfl⟩, if_pos rfl]
    · rw [if_neg (by omega), if_neg (by omega)]
      exact g2 l l1 l2
  · unfold upI
    rw [if_neg (by omega)]
    exact g3
theorem vlY.seed (h : vlY y n a x) {v : Int} (hn : n ≤ 7) : vlY (sF y a 6 (iI v)) n a (upI x 27 v) := by
  obtain ⟨g1, g2, g3⟩ := h
  refine ⟨fun e e1 e2 => ?_, fun l l1 l2 => ?_, ?_⟩
  · obtain ⟨p0, p1, p2, p3, p4⟩ := g1 e e1 e2
    unfold upI
    rw [if_neg (by omega), if_neg (by omega), if_neg (by omega), if_neg (by omega), if_neg (by omega)]
    exact ⟨p0, p1, p2, p3, p4⟩
  · unfold upI
    rw [if_neg (by omega)]
    exact g2 l l1 l2
  · rw [sF_get, if_pos ⟨rfl, rfl⟩]
    unfold upI
    rw [if_pos rfl]
theorem s_sd (h : shY O y a lab) (hv : vlY y n a x) : gI 2 6 y a = some (iI (x 27)) := by
  unfold gI
  rw [if_pos h.1]
  exact congrArg some hv.2.2
theorem s_wsd (h : shY O y a lab) {y' : yS} {v : Int32} (e : yt y' = yt y) : wI 2 6 y' a v = some (sF y' a 6 v) := by
  unfold wI
  rw [if_pos (by rw [e]; exact h.1)]
/-- other writes -/
theorem vlY.o (h : vlY y n a x) {b i : Nat} {v : Int32} (hb : b < a ∨ a + 6 < b) : vlY (yw y b i v) n a x := by
  obtain ⟨g1, g2, g3⟩ := h
  refine ⟨fun e e1 e2 => ?_, fun l l1 l2 => ?_, g3⟩
  · rw [yw_ne (by omega), yw_ne (by omega), yw_ne (by omega), yw_ne (by omega), yw_ne (by omega)]
    exact g1 e e1 e2
  · rw [yw_ne (by omega)]
    exact g2 l l1 l2
theorem vlY.of {b k : Nat} {v : Int32} (h : vlY y n a x) (hb : ¬ (a = b ∧ 6 = k)) : vlY (sF y b k v) n a x := by
  obtain ⟨g1, g2, g3⟩ := h
  refine ⟨g1, g2, ?_⟩
  rw [sF_get, if_neg hb]
  exact g3
theorem shY.t {y' : yS} (h : shY O y a lab) (e1 : yt y' = yt y) (e2 : yr y' = yr y) (e3 : yn y' = yn y) : shY O y' a lab := by
  unfold shY
  rw [e1, e2, e3]
  exact h
/-- a cell of another label lies outside -/
theorem shY.out (h : shY O y a lab) {b : Nat} (h1 : ¬ O b = lab) (h2 : ¬ O b = lab + 20) : b < a ∨ a + 6 < b := by
  obtain ⟨-, -, h3, h4, -⟩ := h
  by_cases c1 : b < a
  · exact Or.inl c1
  · by_cases c2 : a + 6 < b
    · exact Or.inr c2
    · exfalso
      by_cases c3 : b = a
      · subst c3; exact h1 h3
      · have := h4 (b - a) (by omega) (by omega)
        rw [show a + (b - a) = b by omega] at this
        exact h2 this
end SH
/-! LISTS -/
def lsY (G : ai_G) (O : Nat → Nat) (y : yS) (l lab : Nat) (n : Int) (els : Nat → Nat) : Prop := (yt y l = some (.inr 16) ∧ O l = lab ∧ l < yn y ∧ yf y l 2 = iI n) ∧ 0 ≤ n ∧ ∃ q, yr y l 1 = some q ∧ q < yn y ∧ (∀ i : Nat, (i : Int) < n → ye y q i = some (els i)) ∧ ((n = 0 ∧ cst G 50 = some q ∧ yt y q = none) ∨ ∃ cap : Nat, yt y q = some (.inl (4, cap)) ∧ n ≤ cap ∧ (1 ≤ cap ∧ cap ≤ 100) ∧ O q = lab)
section LS
variable {G : ai_G} {O : Nat → Nat} {L : List Nat} {c d : Nat} {y y1 : yS} {l lab : Nat} {n : Int} {els : Nat → Nat}
theorem lsY.fr (h : lsY G O y l lab n els) (f : yF O L c d y y1) (h1 : L.contains lab = false) (h2 : L.contains (100 + lab) = false) (h5 : Nat.beq lab 5 = false) : lsY G O y1 l lab n els := by
  obtain ⟨⟨a1, a2, a3, a4⟩, a5, q, b1, b2, b3, b4⟩ := h
  have hn := f.nx
  have e1 := f.tag a3
  have e2 := f.ref a3 (by rw [a2]; exact h1)
  have e3 : yf y1 l 2 = yf y l 2 := f.int a3 (by unfold lbF; rw [a2, if_neg (Nat.ne_of_beq_eq_false h5)]; exact h2)
  refine ⟨⟨by rw [e1]; exact a1, a2, by omega, by rw [e3]; exact a4⟩, a5, q, by rw [e2]; exact b1, by omega, fun i hi => ?_, ?_⟩
  · rcases b4 with ⟨z1, -, -⟩ | ⟨cap, z1, z2, z3, z4⟩
    · omega
    · rw [f.els b2 (by rw [z4]; exact h1)]
      exact b3 i hi
  · rw [f.tag b2]
    exact b4
theorem l_c (h : lsY G O y l lab n els) : ck 16 y l = some () := if_pos h.1.1
theorem l_size (h : lsY G O y l lab n els) : fy_List_size G y l = some (iI n) := by
  unfold fy_List_size gI
  rw [if_pos h.1.1, h.1.2.2.2]
  rfl
theorem aE_n {t m : Nat} {q : Nat} {z : Int} (ht : yt y q = some (.inl (t, m))) (h0 : 4 ≤ t ∧ t < 7) (h1 : 0 ≤ z) (h2 : z < m) (h3 : m < 2147483648) : aE G y q (iI z) = ye y q z.toNat := by
  unfold aE
  rw [ht]
  simp only
  rw [if_pos ⟨h0, inb_i h1 h2 h3⟩, iI_clamp h1 (by omega)]
theorem l_get (h : lsY G O y l lab n els) {z : Int} (h1 : 0 ≤ z) (h2 : z < n) : fy_List_get G y l (iI z) = some (els z.toNat) := by
  have hc := l_c h
  obtain ⟨⟨a1, a2, a3, a4⟩, a5, q, b1, b2, b3, b4⟩ := h
  rcases b4 with ⟨z1, -, -⟩ | ⟨cap, z1, z2, z3, z4⟩
  · omega
  · have e1 : gI 16 2 y l = some (iI n) := by unfold gI; rw [if_pos a1, a4]
    have e2 : gR 16 1 y l = some q := by unfold gR; rw [if_pos a1, b1]
    have e3 : aE G y q (iI z) = some (els z.toNat) := by rw [aE_n z1 (by omega) h1 (by omega) (by omega)]; exact b3 _ (by omega)
    have e4 : fy_J5_checkIndex (iI z) (iI n) = some (iI z) := by
      unfold fy_J5_checkIndex fy_J6_checkIndex
      rw [i0, if_neg (by rw [iI_lt (by omega) (by omega) (by omega) (by omega)]; omega), if_pos (by rw [iI_lt (by omega) (by omega) (by omega) (by omega)]; exact h2)]
      rfl
    have e5 : fy_List_elementData G y l (iI z) = some (els z.toNat) := by
      unfold fy_List_elementData
      rw [e2, Option.bind_some, e3]
      rfl
    unfold fy_List_get
    rw [e1, Option.bind_some, e4, Option.bind_some, hc, Option.bind_some, e5]
    rfl
end LS

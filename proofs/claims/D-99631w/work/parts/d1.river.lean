/-! LAYER 3, the component: the formula's tree, the river -/
set_option maxRecDepth 100000
/-- the tree at a (at most n deep) has these steps -/
def trY (O : Nat → Nat) (y : yS) : Nat → Nat → List (Nat × Int32) → Prop
  | 0, _, _ => False
  | n + 1, a, l => (O a = 1 ∧ a < yn y) ∧ ((yt y a = some (.inr 12) ∧ l = [(0, yf y a 0)]) ∨ (yt y a = some (.inr 13) ∧ (∃ k : Nat, k < 6 ∧ yf y a 0 = iI k) ∧ l = [(1, yf y a 0)]) ∨ (yt y a = some (.inr 11) ∧ ∃ q l1, yr y a 0 = some q ∧ trY O y n q l1 ∧ l = l1 ++ [(2, 0)]) ∨ (yt y a = some (.inr 14) ∧ ∃ p q l1 l2, yr y a 1 = some p ∧ yr y a 2 = some q ∧ trY O y n p l1 ∧ trY O y n q l2 ∧ l = l1 ++ (l2 ++ [(3, yf y a 0)])))
section TR
variable {G : ai_G} {O : Nat → Nat} {L : List Nat} {c d : Nat} {y y1 : yS}
theorem trY.fr (f : yF O L c d y y1) (h1 : L.contains 1 = false) (h2 : L.contains 101 = false) : ∀ (n a : Nat) (l : List (Nat × Int32)), trY O y n a l → trY O y1 n a l := by
  intro n
  induction n with
  | zero => intro a l h; exact h
  | succ n ih =>
    intro a l h
    have hn := f.nx
    obtain ⟨⟨b1, b2⟩, h⟩ := h
    have e1 := f.tag b2
    have e2 : yr y1 a = yr y a := f.ref b2 (by rw [b1]; exact h1)
    have e3 : yf y1 a 0 = yf y a 0 := f.int b2 (by unfold lbF; rw [b1]; exact h2)
    refine ⟨⟨b1, by omega⟩, ?_⟩
    rw [e1, e2, e3]
    rcases h with h | h | ⟨h, q, l1, g1, g2, g3⟩ | ⟨h, p, q, l1, l2, g1, g2, g3, g4, g5⟩
    · exact Or.inl h
    · exact Or.inr (Or.inl h)
    · exact Or.inr (Or.inr (Or.inl ⟨h, q, l1, g1, ih _ _ g2, g3⟩))
    · exact Or.inr (Or.inr (Or.inr ⟨h, p, q, l1, l2, g1, g2, ih _ _ g3, ih _ _ g4, g5⟩))
theorem trY.up : ∀ (n a : Nat) (l : List (Nat × Int32)), trY O y n a l → trY O y (n + 1) a l := by
  intro n
  induction n with
  | zero => intro a l h; exact h.elim
  | succ n ih =>
    intro a l h
    obtain ⟨b, h⟩ := h
    refine ⟨b, ?_⟩
    rcases h with h | h | ⟨h, q, l1, g1, g2, g3⟩ | ⟨h, p, q, l1, l2, g1, g2, g3, g4, g5⟩
    · exact Or.inl h
    · exact Or.inr (Or.inl h)
    · exact Or.inr (Or.inr (Or.inl ⟨h, q, l1, g1, ih _ _ g2, g3⟩))
    · exact Or.inr (Or.inr (Or.inr ⟨h, p, q, l1, l2, g1, g2, ih _ _ g3, ih _ _ g4, g5⟩))
theorem trY.le {n m a : Nat} {l : List (Nat × Int32)} (h : trY O y n a l) (hm : n ≤ m) : trY O y m a l := by
  obtain ⟨k, rfl⟩ : ∃ k, m = n + k := ⟨m - n, by omega⟩
  induction k with
  | zero => exact h
  | succ k ih => exact trY.up _ _ _ (ih (by omega))
theorem two_done {fof : yS → Nat → Nat → Option Int32} {v0 v1 : Nat} : fy_Two_of G fof y v0 v1 = (gR 14 1 y v0).bind fun x1 => (fof y x1 v1).bind fun p5 => (gR 14 2 y v0).bind fun x10 => (fof y x10 v1).bind fun p14 => (gI 14 0 y v0).bind fun x19 => fm_done x19 p5 p14 := rfl
theorem c_of {q : Nat → Int32} {t : Nat} (hq : ∀ k : Nat, k < 6 → aI y t (iI k) = some (q k)) : ∀ (n a : Nat) (l : List (Nat × Int32)), trY O y n a l → ∃ v, fy_of G n y a t = some v ∧ ∀ st, l.foldl (stepF q) st = v :: st := by
  intro n
  induction n with
  | zero => intro a l h; exact h.elim
  | succ n ih =>
    intro a l h
    obtain ⟨-, h⟩ := h
    have hcl : ∀ c, yt y a = some (.inr c) → cl y a = some c := fun c hc => by unfold cl; rw [hc]
    rcases h with ⟨h, rfl⟩ | ⟨h, ⟨k, hk, ek⟩, rfl⟩ | ⟨h, p, l1, g1, g2, rfl⟩ | ⟨h, p, p', l1, l2, g1, g2, g3, g4, rfl⟩
    · refine ⟨yf y a 0, ?_, fun st => rfl⟩
      show (cl y a).bind _ = _
      rw [hcl _ h]
      simp only [obs, Nat.reduceEqDiff, if_false, if_true, fy_Numeral_of, gI, if_pos h]
    · refine ⟨q k, ?_, fun st => ?_⟩
      · show (cl y a).bind _ = _
        rw [hcl _ h]
        simp only [obs, Nat.reduceEqDiff, if_false, if_true, fy_Named_of, gI, if_pos h, ek, hq k hk]
      · show q (yf y a 0).toNatClampNeg :: st = _
        rw [ek, iI_clamp (by omega) (by omega)]
        rfl
    · obtain ⟨v, e1, e2⟩ := ih p l1 g2
      have g1' : gR 11 0 y a = some p := by unfold gR; rw [if_pos h]; exact g1
      refine ⟨if v = 0 then 1 else 0, ?_, fun st => ?_⟩
      · show (cl y a).bind _ = _
        rw [hcl _ h]
        simp only [obs, if_true, fy_Not_of, g1', e1]
        split <;> rfl
      · rw [List.foldl_append, e2]
        rfl
    · obtain ⟨v, e1, e2⟩ := ih p l1 g3
      obtain ⟨v', e3, e4⟩ := ih p' l2 g4
      have g1' : gR 14 1 y a = some p := by unfold gR; rw [if_pos h]; exact g1
      have g2' : gR 14 2 y a = some p' := by unfold gR; rw [if_pos h]; exact g2
      have g5' : gI 14 0 y a = some (yf y a 0) := by unfold gI; rw [if_pos h]
      refine ⟨doneF (yf y a 0) v v', ?_, fun st => ?_⟩
      · show (cl y a).bind _ = _
        rw [hcl _ h]
        simp only [obs, Nat.reduceEqDiff, if_false, if_true, two_done, g1', e1, g2', e3, g5', m_done]
      · rw [List.foldl_append, List.foldl_append, e2, e4]
        rfl
/-- what a tree's steps are -/
theorem trY.ok : ∀ (n a : Nat) (l : List (Nat × Int32)), trY O y n a l → ∀ (m : Nat) (l2 : List (Nat × Int32)), m + n ≤ 64 → okD (l ++ l2) m = okD l2 (m + 1) := by
  intro n
  induction n with
  | zero => intro a l h; exact h.elim
  | succ n ih =>
    intro a l h m l2 hm
    obtain ⟨-, h⟩ := h
    rcases h with ⟨h, rfl⟩ | ⟨h, ⟨k, hk, ek⟩, rfl⟩ | ⟨h, p, l1, g1, g2, rfl⟩ | ⟨h, p, p', l1, l3, g1, g2, g3, g4, rfl⟩
    · simp only [List.cons_append, List.nil_append, okD, decide_eq_true (show m < 64 by omega), Bool.true_and]
    · have k1 : (0 : Int32) ≤ iI k := by rw [show (0 : Int32) = iI 0 from iI_lit 0, iI_le (by omega) (by omega) (by omega) (by omega)]; omega
      have k2 : iI k < (6 : Int32) := by rw [show (6 : Int32) = iI 6 from iI_lit 6, iI_lt (by omega) (by omega) (by omega) (by omega)]; omega
      simp only [List.cons_append, List.nil_append, okD, ek, decide_eq_true (show m < 64 by omega), decide_eq_true k1, decide_eq_true k2, Bool.true_and]
    · rw [List.append_assoc, ih p l1 g2 m _ (by omega)]
      simp only [List.cons_append, List.nil_append, okD, decide_eq_true (show 1 ≤ m + 1 by omega), Bool.true_and]
    · rw [List.append_assoc, ih p l1 g3 m _ (by omega), List.append_assoc, ih p' l3 g4 (m + 1) _ (by omega)]
      simp only [List.cons_append, List.nil_append, okD, decide_eq_true (show 2 ≤ m + 1 + 1 by omega), Bool.true_and, Nat.add_sub_cancel]
theorem trY.ne {n a : Nat} {l : List (Nat × Int32)} (h : trY O y n a l) : ¬ l = [] := by
  cases n with
  | zero => exact h.elim
  | succ n =>
    obtain ⟨-, h⟩ := h
    rcases h with ⟨h, rfl⟩ | ⟨h, ⟨k, hk, ek⟩, rfl⟩ | ⟨h, p, l1, g1, g2, rfl⟩ | ⟨h, p, p', l1, l3, g1, g2, g3, g4, rfl⟩ <;> simp
end TR
/-- THE RIVER at r (label 1; what is told for the formula: r + 6, label 2); its boards bd, its loads ld -/
def rivY (G : ai_G) (O : Nat → Nat) (y : yS) (ρ : Rv) (r : Nat) (bd ld : Nat → Nat) : Prop :=
  (yt y r = some (.inr 1) ∧ O r = 1 ∧ r + 6 < yn y ∧ (∀ i, 1 ≤ i → i ≤ 5 → O (r + i) = 1) ∧ O (r + 6) = 2) ∧
  (yr y r 0 = some (r + 1) ∧ yr y r 1 = some (r + 2) ∧ yr y r 2 = some (r + 3) ∧ yr y r 3 = some (r + 4) ∧ yr y r 4 = some (r + 5) ∧ yr y r 16 = some (r + 6)) ∧
  (yt y (r + 3) = some (.inl (0, 56)) ∧ yt y (r + 4) = some (.inl (1, 56)) ∧ yt y (r + 5) = some (.inl (1, 56)) ∧ yt y (r + 6) = some (.inl (0, 6))) ∧
  (yf y r 8 = iI (rC ρ) ∧ yf y r 9 = iI (rR ρ) ∧ yf y r 14 = iI (rF ρ) ∧ yf y r 13 = iI (rU ρ) ∧ ∃ dz : Int, (0 ≤ dz ∧ dz < 1000) ∧ yf y r 15 = iI dz) ∧
  (∀ z, 0 ≤ z → z < 56 → ya y (r + 3) z.toNat = iI (rCu ρ z) ∧ ya y (r + 5) z.toNat = iI (rIr ρ z)) ∧
  lsY G O y (r + 1) 1 (rB ρ) bd ∧ lsY G O y (r + 2) 1 (rL ρ) ld ∧
  (∀ b, 0 ≤ b → b < rB ρ → yt y (bd b.toNat) = some (.inr 9) ∧ O (bd b.toNat) = 1 ∧ bd b.toNat < yn y ∧ yf y (bd b.toNat) 1 = iI (rBW ρ b) ∧ yf y (bd b.toNat) 2 = iI (rBA ρ b) ∧ yf y (bd b.toNat) 3 = iI (rBB ρ b)) ∧
  (∀ l, 0 ≤ l → l < rL ρ → yt y (ld l.toNat) = some (.inr 10) ∧ O (ld l.toNat) = 1 ∧ ld l.toNat < yn y ∧ yf y (ld l.toNat) 1 = iI (rLW ρ l)) ∧
  ((rS ρ = [] ∧ yr y r 5 = none) ∨ ∃ q, yr y r 5 = some q ∧ trY O y 64 q (rS ρ))
section RV
variable {G : ai_G} {O : Nat → Nat} {L : List Nat} {c d : Nat} {y y1 : yS} {ρ : Rv} {r : Nat} {bd ld : Nat → Nat}
theorem rivY.fr (h : rivY G O y ρ r bd ld) (f : yF O L c d y y1) (h1 : L.contains 1 = false) (h2 : L.contains 101 = false) : rivY G O y1 ρ r bd ld := by
  obtain ⟨⟨a1, a2, a3, a4, a5⟩, b, ⟨c1, c2, c3, c4⟩, dd, e, l1, l2, bs, ls, ht⟩ := h
  have hn := f.nx
  have er : yr y1 r = yr y r := f.ref (by omega) (by rw [a2]; exact h1)
  have ei : ∀ k, yf y1 r k = yf y r k := fun k => f.int (by omega) (by unfold lbF; rw [a2]; exact h2)
  have ea : ∀ i, 1 ≤ i → i ≤ 5 → ya y1 (r + i) = ya y (r + i) := fun i i1 i2 => f.arr (by omega) (by rw [a4 i i1 i2]; exact h1)
  refine ⟨⟨by rw [f.tag (by omega)]; exact a1, a2, by omega, a4, a5⟩, by rw [er]; exact b, ⟨by rw [f.tag (by omega)]; exact c1, by rw [f.tag (by omega)]; exact c2, by rw [f.tag (by omega)]; exact c3, by rw [f.tag (by omega)]; exact c4⟩, by simp only [ei]; exact dd, fun z z1 z2 => ?_, l1.fr f h1 h2 rfl, l2.fr f h1 h2 rfl, fun b b1 b2 => ?_, fun l k1 k2 => ?_, ?_⟩
  · rw [ea 3 (by omega) (by omega), ea 5 (by omega) (by omega)]
    exact e z z1 z2
  · obtain ⟨g1, g2, g3, g4, g5, g6⟩ := bs b b1 b2
    have ef : ∀ k, yf y1 (bd b.toNat) k = yf y (bd b.toNat) k := fun k => f.int g3 (by unfold lbF; rw [g2]; exact h2)
    exact ⟨by rw [f.tag g3]; exact g1, g2, by omega, by rw [ef]; exact g4, by rw [ef]; exact g5, by rw [ef]; exact g6⟩
  · obtain ⟨g1, g2, g3, g4⟩ := ls l k1 k2
    have ef : ∀ k, yf y1 (ld l.toNat) k = yf y (ld l.toNat) k := fun k => f.int g3 (by unfold lbF; rw [g2]; exact h2)
    exact ⟨by rw [f.tag g3]; exact g1, g2, by omega, by rw [ef]; exact g4⟩
  · rw [er]
    rcases ht with ht | ⟨q, q1, q2⟩
    · exact Or.inl ht
    · exact Or.inr ⟨q, q1, trY.fr f h1 h2 _ _ _ q2⟩
theorem r_c (h : rivY G O y ρ r bd ld) : ck 1 y r = some () := if_pos h.1.1
theorem r_0 (h : rivY G O y ρ r bd ld) : gR 1 0 y r = some (r + 1) := by unfold gR; rw [if_pos h.1.1]; exact h.2.1.1
theorem r_1 (h : rivY G O y ρ r bd ld) : gR 1 1 y r = some (r + 2) := by unfold gR; rw [if_pos h.1.1]; exact h.2.1.2.1
theorem r_2 (h : rivY G O y ρ r bd ld) : gR 1 2 y r = some (r + 3) := by unfold gR; rw [if_pos h.1.1]; exact h.2.1.2.2.1
theorem r_3 (h : rivY G O y ρ r bd ld) : gR 1 3 y r = some (r + 4) := by unfold gR; rw [if_pos h.1.1]; exact h.2.1.2.2.2.1
theorem r_4 (h : rivY G O y ρ r bd ld) : gR 1 4 y r = some (r + 5) := by unfold gR; rw [if_pos h.1.1]; exact h.2.1.2.2.2.2.1
theorem r_16 (h : rivY G O y ρ r bd ld) : gR 1 16 y r = some (r + 6) := by unfold gR; rw [if_pos h.1.1]; exact h.2.1.2.2.2.2.2
theorem r_col (h : rivY G O y ρ r bd ld) : gI 1 8 y r = some (iI (rC ρ)) := by unfold gI; rw [if_pos h.1.1, h.2.2.2.1.1]
theorem r_row (h : rivY G O y ρ r bd ld) : gI 1 9 y r = some (iI (rR ρ)) := by unfold gI; rw [if_pos h.1.1, h.2.2.2.1.2.1]
theorem r_fl (h : rivY G O y ρ r bd ld) : gI 1 14 y r = some (iI (rF ρ)) := by unfold gI; rw [if_pos h.1.1, h.2.2.2.1.2.2.1]
theorem r_un (h : rivY G O y ρ r bd ld) : gI 1 13 y r = some (iI (rU ρ)) := by unfold gI; rw [if_pos h.1.1, h.2.2.2.1.2.2.2.1]
theorem r_dr (h : rivY G O y ρ r bd ld) : ∃ dz : Int, (0 ≤ dz ∧ dz < 1000) ∧ gI 1 15 y r = some (iI dz) := by
  obtain ⟨dz, h1, h2⟩ := h.2.2.2.1.2.2.2.2
  exact ⟨dz, h1, by unfold gI; rw [if_pos h.1.1, h2]⟩
theorem r_c0 (h : rivY G O y ρ r bd ld) : ck 16 y (r + 1) = some () := l_c h.2.2.2.2.2.1
theorem r_c1 (h : rivY G O y ρ r bd ld) : ck 16 y (r + 2) = some () := l_c h.2.2.2.2.2.2.1
theorem r_bs (h : rivY G O y ρ r bd ld) : fy_List_size G y (r + 1) = some (iI (rB ρ)) := l_size h.2.2.2.2.2.1
theorem r_ls (h : rivY G O y ρ r bd ld) : fy_List_size G y (r + 2) = some (iI (rL ρ)) := l_size h.2.2.2.2.2.2.1
theorem r_b (h : rivY G O y ρ r bd ld) {b : Int} (h1 : 0 ≤ b) (h2 : b < rB ρ) : fy_List_get G y (r + 1) (iI b) = some (bd b.toNat) := l_get h.2.2.2.2.2.1 h1 h2
theorem r_l (h : rivY G O y ρ r bd ld) {b : Int} (h1 : 0 ≤ b) (h2 : b < rL ρ) : fy_List_get G y (r + 2) (iI b) = some (ld b.toNat) := l_get h.2.2.2.2.2.2.1 h1 h2
theorem r_bc (h : rivY G O y ρ r bd ld) {b : Int} (h1 : 0 ≤ b) (h2 : b < rB ρ) : ck 9 y (bd b.toNat) = some () := if_pos (h.2.2.2.2.2.2.2.1 b h1 h2).1
theorem r_lc (h : rivY G O y ρ r bd ld) {b : Int} (h1 : 0 ≤ b) (h2 : b < rL ρ) : ck 10 y (ld b.toNat) = some () := if_pos (h.2.2.2.2.2.2.2.2.1 b h1 h2).1
theorem r_bw (h : rivY G O y ρ r bd ld) {b : Int} (h1 : 0 ≤ b) (h2 : b < rB ρ) : gI 9 1 y (bd b.toNat) = some (iI (rBW ρ b)) := by
  obtain ⟨g1, -, -, g4, g5, g6⟩ := h.2.2.2.2.2.2.2.1 b h1 h2
  unfold gI
  rw [if_pos g1, g4]
theorem r_ba (h : rivY G O y ρ r bd ld) {b : Int} (h1 : 0 ≤ b) (h2 : b < rB ρ) : gI 9 2 y (bd b.toNat) = some (iI (rBA ρ b)) := by
  obtain ⟨g1, -, -, g4, g5, g6⟩ := h.2.2.2.2.2.2.2.1 b h1 h2
  unfold gI
  rw [if_pos g1, g5]
theorem r_bb (h : rivY G O y ρ r bd ld) {b : Int} (h1 : 0 ≤ b) (h2 : b < rB ρ) : gI 9 3 y (bd b.toNat) = some (iI (rBB ρ b)) := by
  obtain ⟨g1, -, -, g4, g5, g6⟩ := h.2.2.2.2.2.2.2.1 b h1 h2
  unfold gI
  rw [if_pos g1, g6]
theorem r_lw (h : rivY G O y ρ r bd ld) {b : Int} (h1 : 0 ≤ b) (h2 : b < rL ρ) : gI 10 1 y (ld b.toNat) = some (iI (rLW ρ b)) := by
  obtain ⟨g1, -, -, g4⟩ := h.2.2.2.2.2.2.2.2.1 b h1 h2
  unfold gI
  rw [if_pos g1, g4]
theorem r_cu (h : rivY G O y ρ r bd ld) {z : Int} (h1 : 0 ≤ z) (h2 : z < 56) : aI y (r + 3) (iI z) = some (iI (rCu ρ z)) := by
  rw [aI_n 56 h.2.2.1.1 h1 (by omega) (by omega), (h.2.2.2.2.1 z h1 h2).1]
theorem r_ir (h : rivY G O y ρ r bd ld) {z : Int} (h1 : 0 ≤ z) (h2 : z < 56) : aB G y (r + 5) (iI z) = some (iI (rIr ρ z)) := by
  rw [aB_n 1 56 h.2.2.1.2.2.1 (Or.inl rfl) h1 (by omega) (by omega), (h.2.2.2.2.1 z h1 h2).2]
theorem r_wt (h : rivY G O y ρ r bd ld) {y' : yS} {z : Int} {v : Int32} (e : yt y' = yt y) (h1 : 0 ≤ z) (h2 : z < 6) : wA y' (r + 6) (iI z) v = some (yw y' (r + 6) z.toNat v) :=
  wA_n 6 (by rw [e]; exact h.2.2.1.2.2.2) h1 (by omega) (by omega)
theorem r_t6 (h : rivY G O y ρ r bd ld) : yt y (r + 6) = some (.inl (0, 6)) := h.2.2.1.2.2.2
theorem r_sep (h : rivY G O y ρ r bd ld) {a lab : Nat} (hs : shY O y a lab) (h2 : Nat.beq 2 lab = false) (h3 : Nat.beq 2 (lab + 20) = false) : r + 6 < a ∨ a + 6 < r + 6 := by
  have := hs.out (b := r + 6) (by rw [h.1.2.2.2.2]; exact Nat.ne_of_beq_eq_false h2) (by rw [h.1.2.2.2.2]; exact Nat.ne_of_beq_eq_false h3)
  exact this
theorem r_tre (h : rivY G O y ρ r bd ld) : (rS ρ = [] ∧ yr y r 5 = none) ∨ ∃ q, yr y r 5 = some q ∧ trY O y 64 q (rS ρ) := h.2.2.2.2.2.2.2.2.2
theorem r_toldO (h : rivY G O y ρ r bd ld) : O (r + 6) = 2 := h.1.2.2.2.2
end RV
/-! small functions -/
theorem c_isIn {v a b : Int} (h1 : -2147483648 ≤ v) (h2 : v < 2147483648) (h3 : -2147483648 ≤ a) (h4 : a < 2147483648) (h5 : -2147483648 ≤ b) (h6 : b < 2147483648) : fy_B_isIn (iI v) (iI a) (iI b) = some (if a ≤ v ∧ v ≤ b then 1 else 0) := m_isIn h1 h2 h3 h4 h5 h6
theorem c_within {v m : Int} (h1 : -2147483648 ≤ v) (h2 : v < 2147483648) (h3 : 0 ≤ m) (h4 : m < 2147483648) : fy_B_within (iI v) (iI m) = some (iI (clampI v m)) := by
  simp (disch := omega) only [fy_B_within, imax, imin, clampI, iI_lit, iI_add, iI_sub, iI_mul, iI_neg, obs, if_true, if_false, Int.reduceEq, Int.reduceLE, Int.reduceLT, Int.reduceAdd, Int.reduceSub, Int.reduceMul, Int.reduceNeg, Nat.reduceEqDiff, iI_le, iI_lt, iI_eq]
  by_cases a : v < m
  · simp (disch := omega) only [if_pos a, iI_le, iI_lt, iI_eq]
    by_cases b : 0 < v
    · rw [if_pos b, if_pos (by omega), if_pos (by omega)]
    · rw [if_neg b]
      by_cases e : 0 ≤ v
      · rw [if_pos e, if_pos (by omega), show v = 0 by omega]
      · rw [if_neg e]
  · simp (disch := omega) only [if_neg a, iI_le, iI_lt, iI_eq]
    by_cases b : 0 < m
    · rw [if_pos b, if_pos (by omega)]
      by_cases e : v ≤ m
      · rw [if_pos e, show v = m by omega]
      · rw [if_neg e]
    · rw [if_neg b]
      rw [if_pos (by omega)]
      by_cases e : v ≤ m
      · rw [if_pos e, show v = 0 by omega]
      · rw [if_neg e, show m = 0 by omega]
theorem c_power {a n : Int} (h : 0 ≤ n) (h2 : n < 2147483648) : fy_B_power (iI a) (iI n) = some (iI (a ^ n.toNat)) := m_power h h2
theorem c_cell {G : ai_G} {y : yS} {r : Nat} {a b : Int} : fy_River_cell G y r (iI a) (iI b) = some (iI (8 * b + a)) := by
  simp only [fy_River_cell, iI_lit, iI_add, iI_sub, iI_mul, iI_neg, obs, if_true, if_false, Int.reduceEq, Int.reduceLE, Int.reduceLT, Int.reduceAdd, Int.reduceSub, Int.reduceMul, Int.reduceNeg, Nat.reduceEqDiff]

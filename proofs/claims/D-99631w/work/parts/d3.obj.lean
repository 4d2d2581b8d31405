/-! LAYER 3, the component: the whole object (printed by tools/gen_d3.py) -/
set_option maxRecDepth 100000
/-- labels of the object's own cells, by their place behind it -/
def blk : List Nat := [5, 1, 1, 1, 1, 1, 1, 2, 3, 23, 23, 23, 23, 23, 23, 4, 24, 24, 24, 24, 24, 24, 6, 7, 8, 9, 10, 11, 12, 13, 14, 15, 16, 17, 18, 19, 20, 21, 22, 25, 25, 25]
/-- its reference fields: number, place -/
def fldO : List (Nat × Nat) := [(1, 8), (2, 15), (3, 22), (4, 23), (9, 24), (10, 25), (11, 26), (12, 27), (14, 28), (15, 29), (17, 30), (18, 31), (19, 32), (22, 33), (23, 34), (24, 35), (25, 36), (26, 37), (28, 38)]
/-- what lies at the places -/
def tagO : List (Nat × ((Nat × Nat) ⊕ Nat)) := [(22, .inl (2, 1600)), (23, .inr 3), (26, .inl (0, 7)), (27, .inl (0, 7)), (28, .inr 4), (29, .inr 5), (30, .inl (0, 8)), (31, .inl (1, 64)), (32, .inl (1, 64)), (33, .inl (0, 4)), (35, .inl (0, 4374)), (36, .inl (0, 4374)), (37, .inl (0, 18)), (38, .inl (5, 3)), (39, .inr 6), (40, .inr 6), (41, .inr 6)]
theorem tagO_lt {p : Nat × ((Nat × Nat) ⊕ Nat)} (h : p ∈ tagO) : p.1 < 42 := by
  have : ∀ p ∈ tagO, p.1 < 42 := by decide
  exact this p h
/-- the object's shape -/
def xS (O : Nat → Nat) (y : yS) (X r : Nat) : Prop :=
  (yt y X = some (.inr 0) ∧ X + 41 < yn y ∧ yr y X 0 = some r) ∧ (∀ k, k < 42 → (k = 0 ∨ 8 ≤ k) → O (X + k) = blk.getD k 0) ∧ (∀ p ∈ fldO, yr y X p.1 = some (X + p.2)) ∧ (∀ p ∈ tagO, yt y (X + p.1) = some p.2) ∧ shY O y (X + 15) 4 ∧
  (yr y (X + 28) 2 = some X ∧ yr y (X + 28) 3 = some X ∧ yr y (X + 29) 2 = some X) ∧ (∀ i, i < 3 → ye y (X + 38) i = some (X + 39 + i))
/-- its numbers -/
def xI (y : yS) (μ : Mu) (X : Nat) : Prop := yf y X 5 = iI (uS μ 1) ∧ yf y X 6 = iI (uS μ 76) ∧ yf y X 7 = iI (uS μ 2) ∧ yf y X 8 = iI (uS μ 3) ∧ yf y X 13 = iI (uS μ 61)
def xT (y : yS) (μ : Mu) (X : Nat) : Prop := ∀ z, 0 ≤ z → z < 1600 → ya y (X + 22) z.toNat &&& iI 255 = iI (uA μ 1 z)
def xL (y : yS) (μ : Mu) (X : Nat) : Prop := ∀ z, 0 ≤ z → z < uS μ 61 → ya y (X + 26) z.toNat = iI (uA μ 26 z)
def xW (y : yS) (X : Nat) : Prop := ∀ i, i < 8 → ya y (X + 30) i = iI 0
/-- what was kept: K i at i -/
def xK (G : ai_G) (O : Nat → Nat) (y : yS) (n : Int) (a u : Int) (W : Int → Int → Int) (X : Nat) (K : Int → Nat) : Prop :=
  lsY G O y (X + 24) 8 a (fun i => K i) ∧ lsY G O y (X + 25) 9 u (fun i => K (a + u - 1 - i)) ∧ (∀ i, 0 ≤ i → i < a + u → yt y (K i) = some (.inr 6) ∧ O (K i) = 26 ∧ K i < yn y ∧ ∃ q, yr y (K i) 0 = some q ∧ shY O y q 27 ∧ vlY y n q (W i)) ∧ (∀ i j, 0 ≤ i → i < j → j < a + u → ¬ K i = K j)
def xB (O : Nat → Nat) (y : yS) (n : Int) (has : Int → Int) (B : Int → Int → Int) (X : Nat) : Prop := ∀ i : Nat, i < 3 → (has i = 0 ∧ yr y (X + 39 + i) 0 = none) ∨ (has i = 1 ∧ ∃ q, yr y (X + 39 + i) 0 = some q ∧ shY O y q 27 ∧ vlY y n q (B i))
def xG (G : ai_G) (O : Nat → Nat) (y : yS) (n : Int) (A : Nat → Int → Int) (X : Nat) (sg : Nat → Nat) : Prop :=
  lsY G O y (X + 34) 18 n sg ∧ (∀ i : Nat, (i : Int) < n → yt y (sg i) = some (.inr 15) ∧ O (sg i) = 28 ∧ sg i < yn y ∧ yf y (sg i) 0 = iI (A 35 i - 1) ∧ yf y (sg i) 1 = iI (A 36 i) ∧ yf y (sg i) 2 = iI (A 37 i) ∧ yf y (sg i) 3 = iI (A 34 i) ∧ yf y (sg i) 4 = iI (A 39 i) ∧ yf y (sg i) 5 = iI (A 38 i)) ∧ (∀ i j : Nat, i < j → (j : Int) < n → ¬ sg i = sg j)
/-- the object holds all this -/
def XQ (G : ai_G) (O : Nat → Nat) (y : yS) (μ : Mu) (X r : Nat) (bd ld : Nat → Nat) (K : Int → Nat) (sg : Nat → Nat) : Prop :=
  xS O y X r ∧ rivY G O y (uR μ) r bd ld ∧ (shY O y (X + 8) 3 ∧ vlY y (rL (uR μ)) (X + 8) (uX μ)) ∧ xI y μ X ∧ xT y μ X ∧ xL y μ X ∧ xW y X ∧ xK G O y (rL (uR μ)) (uS μ 57) (uS μ 58) (uW μ) X K ∧ xB O y (rL (uR μ)) (uA μ 43) (uB μ) X ∧ xG G O y (uS μ 75) (uA μ) X sg
def XR (G : ai_G) (y : yS) (μ : Mu) (X : Nat) : Prop := ∃ O r bd ld K sg, XQ G O y μ X r bd ld K sg
section XF
variable {G : ai_G} {O O' : Nat → Nat} {L : List Nat} {c d : Nat} {y y1 : yS} {μ : Mu} {ρ : Rv} {X r : Nat} {bd ld : Nat → Nat} {K : Int → Nat} {sg : Nat → Nat}
/-- labels of new cells are free -/
theorem shY.rel {a lab : Nat} (h : shY O y a lab) (e : ∀ q, q < yn y → O' q = O q) : shY O' y a lab := by
  obtain ⟨h1, h2, h3, h4, h5⟩ := h
  exact ⟨h1, h2, (e a (by omega)).trans h3, fun i i1 i2 => (e (a + i) (by omega)).trans (h4 i i1 i2), h5⟩
theorem lsY.rel {l lab : Nat} {n : Int} {els : Nat → Nat} (h : lsY G O y l lab n els) (e : ∀ q, q < yn y → O' q = O q) : lsY G O' y l lab n els := by
  obtain ⟨⟨a1, a2, a3, a4⟩, a5, q, b1, b2, b3, b4⟩ := h
  refine ⟨⟨a1, (e l a3).trans a2, a3, a4⟩, a5, q, b1, b2, b3, ?_⟩
  rcases b4 with z | ⟨cap, z1, z2, z3, z4⟩
  · exact Or.inl z
  · exact Or.inr ⟨cap, z1, z2, z3, (e q b2).trans z4⟩
theorem trY.rel (e : ∀ q, q < yn y → O' q = O q) : ∀ (n a : Nat) (l : List (Nat × Int32)), trY O y n a l → trY O' y n a l := by
  intro n
  induction n with
  | zero => intro a l h; exact h
  | succ n ih =>
    intro a l h
    obtain ⟨⟨b1, b2⟩, h⟩ := h
    refine ⟨⟨(e a b2).trans b1, b2⟩, ?_⟩
    rcases h with h | h | ⟨h, q, l1, g1, g2, g3⟩ | ⟨h, p, q, l1, l2, g1, g2, g3, g4, g5⟩
    · exact Or.inl h
    · exact Or.inr (Or.inl h)
    · exact Or.inr (Or.inr (Or.inl ⟨h, q, l1, g1, ih _ _ g2, g3⟩))
    · exact Or.inr (Or.inr (Or.inr ⟨h, p, q, l1, l2, g1, g2, ih _ _ g3, ih _ _ g4, g5⟩))
theorem rivY.rel (h : rivY G O y ρ r bd ld) (e : ∀ q, q < yn y → O' q = O q) : rivY G O' y ρ r bd ld := by
  obtain ⟨⟨a1, a2, a3, a4, a5⟩, b, cc, dd, ee, l1, l2, bs, ls, ht⟩ := h
  refine ⟨⟨a1, (e r (by omega)).trans a2, a3, fun i i1 i2 => (e _ (by omega)).trans (a4 i i1 i2), (e _ (by omega)).trans a5⟩, b, cc, dd, ee, l1.rel e, l2.rel e, fun b b1 b2 => ?_, fun l k1 k2 => ?_, ?_⟩
  · obtain ⟨g1, g2, g3, g4⟩ := bs b b1 b2
    exact ⟨g1, (e _ g3).trans g2, g3, g4⟩
  · obtain ⟨g1, g2, g3, g4⟩ := ls l k1 k2
    exact ⟨g1, (e _ g3).trans g2, g3, g4⟩
  · rcases ht with ht | ⟨q, q1, q2⟩
    · exact Or.inl ht
    · exact Or.inr ⟨q, q1, trY.rel e _ _ _ q2⟩
theorem xS.rel (h : xS O y X r) (e : ∀ q, q < yn y → O' q = O q) : xS O' y X r := by
  obtain ⟨⟨a1, a2, a3⟩, b, c1, d1, e1, f1⟩ := h
  exact ⟨⟨a1, a2, a3⟩, fun k k1 k2 => (e _ (by omega)).trans (b k k1 k2), c1, d1, e1.rel e, f1⟩
theorem xK.rel {n a u : Int} {W : Int → Int → Int} (h : xK G O y n a u W X K) (e : ∀ q, q < yn y → O' q = O q) : xK G O' y n a u W X K := by
  obtain ⟨h1, h2, h3, h4⟩ := h
  refine ⟨h1.rel e, h2.rel e, fun i i1 i2 => ?_, h4⟩
  obtain ⟨g1, g2, g3, q, g4, g5, g6⟩ := h3 i i1 i2
  exact ⟨g1, (e _ g3).trans g2, g3, q, g4, g5.rel e, g6⟩
theorem xB.rel {n : Int} {has : Int → Int} {B : Int → Int → Int} (h : xB O y n has B X) (e : ∀ q, q < yn y → O' q = O q) : xB O' y n has B X := by
  intro i hi
  rcases h i hi with h1 | ⟨h1, q, g1, g2, g3⟩
  · exact Or.inl h1
  · exact Or.inr ⟨h1, q, g1, g2.rel e, g3⟩
theorem xG.rel {n : Int} {A : Nat → Int → Int} (h : xG G O y n A X sg) (e : ∀ q, q < yn y → O' q = O q) : xG G O' y n A X sg := by
  obtain ⟨h1, h2, h3⟩ := h
  refine ⟨h1.rel e, fun i hi => ?_, h3⟩
  obtain ⟨g1, g2, g3, g4⟩ := h2 i hi
  exact ⟨g1, (e _ g3).trans g2, g3, g4⟩
theorem XQ.rel (h : XQ G O y μ X r bd ld K sg) (e : ∀ q, q < yn y → O' q = O q) : XQ G O' y μ X r bd ld K sg := by
  obtain ⟨hS, hR, ⟨hN, hV⟩, hI, hT, hL, hW, hK, hB, hG⟩ := h
  exact ⟨hS.rel e, hR.rel e, ⟨hN.rel e, hV⟩, hI, hT, hL, hW, hK.rel e, hB.rel e, hG.rel e⟩
/-- frames -/
def pSx : List Nat := [5, 4, 12, 13, 22]
def pAx : List Nat := [8, 108, 9, 109, 26, 27, 127, 47]
def pBx : List Nat := [25, 27, 127, 47]
def pGx : List Nat := [18, 118, 28, 128]
theorem xS.out (h : xS O y X r) (k : Nat) (hk : k < 42) (h0 : k = 0 ∨ 8 ≤ k) : O (X + k) = blk.getD k 0 := h.2.1 k hk h0
theorem xS.fr (h : xS O y X r) (f : yF O L c d y y1) (hL : L.all (fun k => !(pSx.contains k)) = true) : xS O y1 X r := by
  obtain ⟨⟨a1, a2, a3⟩, b, c1, d1, e1, ⟨f1, f2, f3⟩, g1⟩ := h
  have hn := f.nx
  have o0 : O X = 5 := b 0 (by omega) (Or.inl rfl)
  have o28 : O (X + 28) = 12 := b 28 (by omega) (Or.inr (by omega))
  have o29 : O (X + 29) = 13 := b 29 (by omega) (Or.inr (by omega))
  have o38 : O (X + 38) = 22 := b 38 (by omega) (Or.inr (by omega))
  have er : yr y1 X = yr y X := f.ref (by omega) (by rw [o0]; exact off_all hL rfl)
  refine ⟨⟨by rw [f.tag (by omega)]; exact a1, by omega, by rw [er]; exact a3⟩, b, fun p hp => by rw [er]; exact c1 p hp, fun p hp => ?_, e1.fr f (off_all hL rfl), ⟨?_, ?_, ?_⟩, fun i hi => ?_⟩
  · have := tagO_lt hp
    rw [f.tag (by omega)]
    exact d1 p hp
  · rw [f.ref (by omega) (by rw [o28]; exact off_all hL rfl)]; exact f1
  · rw [f.ref (by omega) (by rw [o28]; exact off_all hL rfl)]; exact f2
  · rw [f.ref (by omega) (by rw [o29]; exact off_all hL rfl)]; exact f3
  · rw [f.els (by omega) (by rw [o38]; exact off_all hL rfl)]; exact g1 i hi
theorem x_f0 (h : xS O y X r) (f : yF O L c d y y1) (k : Nat) (hk : L.contains (200 + k) = false) : yf y1 X k = yf y X k := by
  have o0 : O X = 5 := h.2.1 0 (by omega) (Or.inl rfl)
  exact f.int (by have := h.1.2.1; omega) (by unfold lbF; rw [o0, if_pos rfl]; exact hk)
theorem xI.fr (hi : xI y μ X) (h : xS O y X r) (f : yF O L c d y y1) (hL : L.all (fun k => !([205, 206, 207, 208, 213].contains k)) = true) : xI y1 μ X := by
  obtain ⟨h1, h2, h3, h4, h5⟩ := hi
  exact ⟨(x_f0 h f 5 (off_all hL rfl)).trans h1, (x_f0 h f 6 (off_all hL rfl)).trans h2, (x_f0 h f 7 (off_all hL rfl)).trans h3, (x_f0 h f 8 (off_all hL rfl)).trans h4, (x_f0 h f 13 (off_all hL rfl)).trans h5⟩
theorem x_arr (h : xS O y X r) (f : yF O L c d y y1) (k : Nat) (h1 : 8 ≤ k) (h2 : k < 42) (hk : L.contains (blk.getD k 0) = false) : ya y1 (X + k) = ya y (X + k) :=
  f.arr (by have := h.1.2.1; omega) (by rw [h.2.1 k h2 (Or.inr h1)]; exact hk)
theorem xT.fr (hi : xT y μ X) (h : xS O y X r) (f : yF O L c d y y1) (hL : L.contains 6 = false) : xT y1 μ X := by
  intro z z1 z2
  rw [x_arr h f 22 (by omega) (by omega) hL]
  exact hi z z1 z2
theorem xL.fr (hi : xL y μ X) (h : xS O y X r) (f : yF O L c d y y1) (hL : L.contains 10 = false) : xL y1 μ X := by
  intro z z1 z2
  rw [x_arr h f 26 (by omega) (by omega) hL]
  exact hi z z1 z2
theorem xW.fr (hi : xW y X) (h : xS O y X r) (f : yF O L c d y y1) (hL : L.contains 14 = false) : xW y1 X := by
  intro i hi2
  rw [x_arr h f 30 (by omega) (by omega) hL]
  exact hi i hi2
theorem xK.fr {n a u : Int} {W : Int → Int → Int} (h : xK G O y n a u W X K) (f : yF O L c d y y1) (hL : L.all (fun k => !(pAx.contains k)) = true) : xK G O y1 n a u W X K := by
  obtain ⟨h1, h2, h3, h4⟩ := h
  have hn := f.nx
  refine ⟨h1.fr f (off_all hL rfl) (off_all hL rfl) rfl, h2.fr f (off_all hL rfl) (off_all hL rfl) rfl, fun i i1 i2 => ?_, h4⟩
  obtain ⟨g1, g2, g3, q, g4, g5, g6⟩ := h3 i i1 i2
  refine ⟨by rw [f.tag g3]; exact g1, g2, by omega, q, by rw [f.ref g3 (by rw [g2]; exact off_all hL rfl)]; exact g4, g5.fr f (off_all hL rfl), g6.fr g5 f (off_all hL rfl) (off_all hL rfl) rfl⟩
theorem xB.fr {n : Int} {has : Int → Int} {B : Int → Int → Int} (h : xB O y n has B X) (hs : xS O y X r) (f : yF O L c d y y1) (hL : L.all (fun k => !(pBx.contains k)) = true) : xB O y1 n has B X := by
  intro i hi
  have er : yr y1 (X + 39 + i) = yr y (X + 39 + i) := by
    have h1 := hs.1.2.1
    refine f.ref (by omega) ?_
    rw [show X + 39 + i = X + (39 + i) by omega, hs.2.1 (39 + i) (by omega) (Or.inr (by omega))]
    have : blk.getD (39 + i) 0 = 25 := by
      match i, hi with
      | 0, _ => rfl
      | 1, _ => rfl
      | 2, _ => rfl
    rw [this]
    exact off_all hL rfl
  rw [er]
  rcases h i hi with h1 | ⟨h1, q, g1, g2, g3⟩
  · exact Or.inl h1
  · exact Or.inr ⟨h1, q, g1, g2.fr f (off_all hL rfl), g3.fr g2 f (off_all hL rfl) (off_all hL rfl) rfl⟩
theorem xG.fr {n : Int} {A : Nat → Int → Int} (h : xG G O y n A X sg) (f : yF O L c d y y1) (hL : L.all (fun k => !(pGx.contains k)) = true) : xG G O y1 n A X sg := by
  obtain ⟨h1, h2, h3⟩ := h
  have hn := f.nx
  refine ⟨h1.fr f (off_all hL rfl) (off_all hL rfl) rfl, fun i hi => ?_, h3⟩
  obtain ⟨g1, g2, g3, g4⟩ := h2 i hi
  have ef : ∀ k, yf y1 (sg i) k = yf y (sg i) k := fun k => f.int g3 (by unfold lbF; rw [g2]; exact off_all hL rfl)
  rw [ef, ef, ef, ef, ef, ef]
  exact ⟨by rw [f.tag g3]; exact g1, g2, by omega, g4⟩
/-- what no scratch may hold -/
def xP : List Nat := [5, 4, 12, 13, 22, 1, 101, 3, 103, 23, 205, 206, 207, 208, 213, 6, 10, 14, 8, 108, 9, 109, 26, 27, 127, 47, 25, 18, 118, 28, 128]
theorem XQ.fr (h : XQ G O y μ X r bd ld K sg) (f : yF O L c d y y1) (hL : L.all (fun k => !(xP.contains k)) = true) : XQ G O y1 μ X r bd ld K sg := by
  obtain ⟨hS, hR, ⟨hN, hV⟩, hI, hT, hl, hW, hK, hB, hG⟩ := h
  exact ⟨hS.fr f (all_sub hL rfl), hR.fr f (off_all hL rfl) (off_all hL rfl), ⟨hN.fr f (off_all hL rfl), hV.fr hN f (off_all hL rfl) (off_all hL rfl) rfl⟩, hI.fr hS f (all_sub hL rfl), hT.fr hS f (off_all hL rfl), hl.fr hS f (off_all hL rfl), hW.fr hS f (off_all hL rfl), hK.fr f (all_sub hL rfl), hB.fr hS f (all_sub hL rfl), hG.fr f (all_sub hL rfl)⟩
theorem x_c (h : xS O y X r) : ck 0 y X = some () := if_pos h.1.1
theorem x_ref (h : xS O y X r) (p : Nat × Nat) (hp : p ∈ fldO) : gR 0 p.1 y X = some (X + p.2) := by
  unfold gR
  rw [if_pos h.1.1]
  exact h.2.2.1 p hp
theorem x_tag (h : xS O y X r) (p : Nat × ((Nat × Nat) ⊕ Nat)) (hp : p ∈ tagO) : yt y (X + p.1) = some p.2 := h.2.2.2.1 p hp
theorem x_0 (h : xS O y X r) : gR 0 0 y X = some r := by
  unfold gR
  rw [if_pos h.1.1]
  exact h.1.2.2
theorem x_th (h : xS O y X r) : shY O y (X + 15) 4 := h.2.2.2.2.1
theorem x_1 (h : xS O y X r) : gR 0 1 y X = some (X + 8) := x_ref h (1, 8) (by decide)
theorem x_2 (h : xS O y X r) : gR 0 2 y X = some (X + 15) := x_ref h (2, 15) (by decide)
theorem x_3 (h : xS O y X r) : gR 0 3 y X = some (X + 22) := x_ref h (3, 22) (by decide)
theorem x_4 (h : xS O y X r) : gR 0 4 y X = some (X + 23) := x_ref h (4, 23) (by decide)
theorem x_9 (h : xS O y X r) : gR 0 9 y X = some (X + 24) := x_ref h (9, 24) (by decide)
theorem x_10 (h : xS O y X r) : gR 0 10 y X = some (X + 25) := x_ref h (10, 25) (by decide)
theorem x_11 (h : xS O y X r) : gR 0 11 y X = some (X + 26) := x_ref h (11, 26) (by decide)
theorem x_12 (h : xS O y X r) : gR 0 12 y X = some (X + 27) := x_ref h (12, 27) (by decide)
theorem x_14 (h : xS O y X r) : gR 0 14 y X = some (X + 28) := x_ref h (14, 28) (by decide)
theorem x_15 (h : xS O y X r) : gR 0 15 y X = some (X + 29) := x_ref h (15, 29) (by decide)
theorem x_17 (h : xS O y X r) : gR 0 17 y X = some (X + 30) := x_ref h (17, 30) (by decide)
theorem x_18 (h : xS O y X r) : gR 0 18 y X = some (X + 31) := x_ref h (18, 31) (by decide)
theorem x_19 (h : xS O y X r) : gR 0 19 y X = some (X + 32) := x_ref h (19, 32) (by decide)
theorem x_22 (h : xS O y X r) : gR 0 22 y X = some (X + 33) := x_ref h (22, 33) (by decide)
theorem x_23 (h : xS O y X r) : gR 0 23 y X = some (X + 34) := x_ref h (23, 34) (by decide)
theorem x_24 (h : xS O y X r) : gR 0 24 y X = some (X + 35) := x_ref h (24, 35) (by decide)
theorem x_25 (h : xS O y X r) : gR 0 25 y X = some (X + 36) := x_ref h (25, 36) (by decide)
theorem x_26 (h : xS O y X r) : gR 0 26 y X = some (X + 37) := x_ref h (26, 37) (by decide)
theorem x_28 (h : xS O y X r) : gR 0 28 y X = some (X + 38) := x_ref h (28, 38) (by decide)
theorem x_t22 (h : xS O y X r) : yt y (X + 22) = some (.inl (2, 1600)) := x_tag h (22, .inl (2, 1600)) (by simp [tagO])
theorem x_t23 (h : xS O y X r) : yt y (X + 23) = some (.inr 3) := x_tag h (23, .inr 3) (by simp [tagO])
theorem x_t26 (h : xS O y X r) : yt y (X + 26) = some (.inl (0, 7)) := x_tag h (26, .inl (0, 7)) (by simp [tagO])
theorem x_t27 (h : xS O y X r) : yt y (X + 27) = some (.inl (0, 7)) := x_tag h (27, .inl (0, 7)) (by simp [tagO])
theorem x_t28 (h : xS O y X r) : yt y (X + 28) = some (.inr 4) := x_tag h (28, .inr 4) (by simp [tagO])
theorem x_t29 (h : xS O y X r) : yt y (X + 29) = some (.inr 5) := x_tag h (29, .inr 5) (by simp [tagO])
theorem x_t30 (h : xS O y X r) : yt y (X + 30) = some (.inl (0, 8)) := x_tag h (30, .inl (0, 8)) (by simp [tagO])
theorem x_t31 (h : xS O y X r) : yt y (X + 31) = some (.inl (1, 64)) := x_tag h (31, .inl (1, 64)) (by simp [tagO])
theorem x_t32 (h : xS O y X r) : yt y (X + 32) = some (.inl (1, 64)) := x_tag h (32, .inl (1, 64)) (by simp [tagO])
theorem x_t33 (h : xS O y X r) : yt y (X + 33) = some (.inl (0, 4)) := x_tag h (33, .inl (0, 4)) (by simp [tagO])
theorem x_t35 (h : xS O y X r) : yt y (X + 35) = some (.inl (0, 4374)) := x_tag h (35, .inl (0, 4374)) (by simp [tagO])
theorem x_t36 (h : xS O y X r) : yt y (X + 36) = some (.inl (0, 4374)) := x_tag h (36, .inl (0, 4374)) (by simp [tagO])
theorem x_t37 (h : xS O y X r) : yt y (X + 37) = some (.inl (0, 18)) := x_tag h (37, .inl (0, 18)) (by simp [tagO])
theorem x_t38 (h : xS O y X r) : yt y (X + 38) = some (.inl (5, 3)) := x_tag h (38, .inl (5, 3)) (by simp [tagO])
theorem x_o0 (h : xS O y X r) : O X = 5 := h.2.1 0 (by omega) (Or.inl rfl)
theorem x_o22 (h : xS O y X r) : O (X + 22) = 6 := h.2.1 22 (by omega) (Or.inr (by omega))
theorem x_o23 (h : xS O y X r) : O (X + 23) = 7 := h.2.1 23 (by omega) (Or.inr (by omega))
theorem x_o24 (h : xS O y X r) : O (X + 24) = 8 := h.2.1 24 (by omega) (Or.inr (by omega))
theorem x_o25 (h : xS O y X r) : O (X + 25) = 9 := h.2.1 25 (by omega) (Or.inr (by omega))
theorem x_o26 (h : xS O y X r) : O (X + 26) = 10 := h.2.1 26 (by omega) (Or.inr (by omega))
theorem x_o27 (h : xS O y X r) : O (X + 27) = 11 := h.2.1 27 (by omega) (Or.inr (by omega))
theorem x_o28 (h : xS O y X r) : O (X + 28) = 12 := h.2.1 28 (by omega) (Or.inr (by omega))
theorem x_o29 (h : xS O y X r) : O (X + 29) = 13 := h.2.1 29 (by omega) (Or.inr (by omega))
theorem x_o30 (h : xS O y X r) : O (X + 30) = 14 := h.2.1 30 (by omega) (Or.inr (by omega))
theorem x_o31 (h : xS O y X r) : O (X + 31) = 15 := h.2.1 31 (by omega) (Or.inr (by omega))
theorem x_o32 (h : xS O y X r) : O (X + 32) = 16 := h.2.1 32 (by omega) (Or.inr (by omega))
theorem x_o33 (h : xS O y X r) : O (X + 33) = 17 := h.2.1 33 (by omega) (Or.inr (by omega))
theorem x_o34 (h : xS O y X r) : O (X + 34) = 18 := h.2.1 34 (by omega) (Or.inr (by omega))
theorem x_o35 (h : xS O y X r) : O (X + 35) = 19 := h.2.1 35 (by omega) (Or.inr (by omega))
theorem x_o36 (h : xS O y X r) : O (X + 36) = 20 := h.2.1 36 (by omega) (Or.inr (by omega))
theorem x_o37 (h : xS O y X r) : O (X + 37) = 21 := h.2.1 37 (by omega) (Or.inr (by omega))
theorem x_o38 (h : xS O y X r) : O (X + 38) = 22 := h.2.1 38 (by omega) (Or.inr (by omega))
theorem x_o39 (h : xS O y X r) : O (X + 39) = 25 := h.2.1 39 (by omega) (Or.inr (by omega))
theorem x_o40 (h : xS O y X r) : O (X + 40) = 25 := h.2.1 40 (by omega) (Or.inr (by omega))
theorem x_o41 (h : xS O y X r) : O (X + 41) = 25 := h.2.1 41 (by omega) (Or.inr (by omega))
theorem x_i5 (h : xS O y X r) (hi : xI y μ X) : gI 0 5 y X = some (iI (uS μ 1)) := by unfold gI; rw [if_pos h.1.1, hi.1]
theorem x_i6 (h : xS O y X r) (hi : xI y μ X) : gI 0 6 y X = some (iI (uS μ 76)) := by unfold gI; rw [if_pos h.1.1, hi.2.1]
theorem x_i7 (h : xS O y X r) (hi : xI y μ X) : gI 0 7 y X = some (iI (uS μ 2)) := by unfold gI; rw [if_pos h.1.1, hi.2.2.1]
theorem x_i8 (h : xS O y X r) (hi : xI y μ X) : gI 0 8 y X = some (iI (uS μ 3)) := by unfold gI; rw [if_pos h.1.1, hi.2.2.2.1]
theorem x_i13 (h : xS O y X r) (hi : xI y μ X) : gI 0 13 y X = some (iI (uS μ 61)) := by unfold gI; rw [if_pos h.1.1, hi.2.2.2.2]
theorem x_wI (h : xS O y X r) {y' : yS} {k : Nat} {v : Int32} (e : yt y' = yt y) : wI 0 k y' X v = some (sF y' X k v) := by
  unfold wI
  rw [if_pos (by rw [e]; exact h.1.1)]
theorem x_lb (h : xS O y X r) (k : Nat) : lbF O X k = 200 + k := by
  unfold lbF
  rw [x_o0 h, if_pos rfl]
theorem x_ge {y' : yS} (h : xS O y X r) {k : Nat} {v : Int32} (e : yt y' = yt y) : gI 0 k (sF y' X k v) X = some v := gI_sFe (by rw [e]; exact h.1.1)
/-- the questions -/
theorem c_boards (hS : xS O y X r) (hR : rivY G O y ρ r bd ld) : fy_B_boards G y X = some (iI (rB ρ)) := by
  simp only [fy_B_boards, x_0 hS, r_0 hR, r_c0 hR, r_bs hR, obs]
theorem c_loads (hS : xS O y X r) (hR : rivY G O y ρ r bd ld) : fy_B_loads G y X = some (iI (rL ρ)) := by
  simp only [fy_B_loads, x_0 hS, r_1 hR, r_c1 hR, r_ls hR, obs]
theorem one_or (p : Prop) [Decidable p] : (if (if p then (1 : Int32) else 0) = 0 ∨ (if p then (1 : Int32) else 0) = 1 then some (if p then (1 : Int32) else 0) else none) = some (if p then 1 else 0) := by
  by_cases h : p
  · simp only [if_pos h]; decide
  · simp only [if_neg h]; decide
theorem c_isBoard (hS : xS O y X r) (hR : rivY G O y ρ r bd ld) (hw : wfR ρ) {b : Int} (h1 : -2147483648 ≤ b) (h2 : b < 2147483648) : fy_B_isBoard G y X (iI b) = some (if 0 ≤ b ∧ b < rB ρ then 1 else 0) := by
  have hb := hw.2.2.1
  unfold fy_B_isBoard
  rw [x_c hS, obs, c_boards hS hR, obs, i0, i1, iI_sub, c_isIn h1 h2 (by omega) (by omega) (by omega) (by omega)]
  rw [obs, ← i0, ← i1, one_or]
  by_cases h : 0 ≤ b ∧ b < rB ρ
  · rw [if_pos (show 0 ≤ b ∧ b ≤ rB ρ - 1 by omega), if_pos h]
  · rw [if_neg (show ¬ (0 ≤ b ∧ b ≤ rB ρ - 1) by omega), if_neg h]
theorem c_isLoad (hS : xS O y X r) (hR : rivY G O y ρ r bd ld) (hw : wfR ρ) {b : Int} (h1 : -2147483648 ≤ b) (h2 : b < 2147483648) : fy_B_isLoad G y X (iI b) = some (if 0 ≤ b ∧ b < rL ρ then 1 else 0) := by
  have hb := hw.2.2.2.1
  unfold fy_B_isLoad
  rw [x_c hS, obs, c_loads hS hR, obs, i0, i1, iI_sub, c_isIn h1 h2 (by omega) (by omega) (by omega) (by omega)]
  rw [obs, ← i0, ← i1, one_or]
  by_cases h : 0 ≤ b ∧ b < rL ρ
  · rw [if_pos (show 0 ≤ b ∧ b ≤ rL ρ - 1 by omega), if_pos h]
  · rw [if_neg (show ¬ (0 ≤ b ∧ b ≤ rL ρ - 1) by omega), if_neg h]
theorem c_left9 (hS : xS O y X r) (hR : rivY G O y ρ r bd ld) {x : Int → Int} (hN : shY O y (X + 8) 3) (hV : vlY y (rL ρ) (X + 8) x) {b : Int} (h1 : 0 ≤ b) (h2 : b < 4) : fy_B_strokesLeft G y X (iI b) = some (iI (lft ρ x b)) := by
  simp (disch := omega) only [fy_B_strokesLeft, x_0 hS, r_row hR, x_1 hS, s_1 hN, s_a1 hN hV, obs, iI_sub]
  rfl
/-- what the object is about: the river, the boards now -/
def XC (G : ai_G) (O : Nat → Nat) (y : yS) (ρ : Rv) (x : Int → Int) (X r : Nat) (bd ld : Nat → Nat) : Prop := xS O y X r ∧ rivY G O y ρ r bd ld ∧ shY O y (X + 8) 3 ∧ vlY y (rL ρ) (X + 8) x
theorem XC.fr {x : Int → Int} (h : XC G O y ρ x X r bd ld) (f : yF O L c d y y1) (hL : L.all (fun k => !([5, 4, 12, 13, 22, 1, 101, 3, 103, 23].contains k)) = true) : XC G O y1 ρ x X r bd ld := by
  obtain ⟨hS, hR, hN, hV⟩ := h
  exact ⟨hS.fr f (all_sub hL rfl), hR.fr f (off_all hL rfl) (off_all hL rfl), hN.fr f (off_all hL rfl), hV.fr hN f (off_all hL rfl) (off_all hL rfl) rfl⟩
theorem XQ.xc (h : XQ G O y μ X r bd ld K sg) : XC G O y (uR μ) (uX μ) X r bd ld := ⟨h.1, h.2.1, h.2.2.1.1, h.2.2.1.2⟩
/-- room -/
def bnd (y y' : yS) : Prop := yn y ≤ yn y' ∧ yn y' ≤ yn y + 5000 ∧ yu y' ≤ yu y + 50000 ∧ ∀ a, a < yn y → yt y' a = yt y a
theorem bnd.refl : bnd y y := ⟨Nat.le_refl _, by omega, by omega, fun _ _ => rfl⟩
theorem yF.room (f : yF O L c d y y1) (hc : c ≤ 5000) (hd : d ≤ 50000) : bnd y y1 := ⟨f.1.1, by have := f.1.2.1; omega, by have := f.1.2.2; omega, f.2.1⟩
theorem XR.of (h : XQ G O y μ X r bd ld K sg) : XR G y μ X := ⟨O, r, bd, ld, K, sg, h⟩
end XF

/-! LAYER 3, the lines: what is read, both sides -/
set_option maxRecDepth 100000
/-- what is read: numbers (by the component's fields; 0 boards, 1 loads, 16 whether a line was read), rows (0 current, 1 whether told, 2 iron, 3-5 boards, 6 loads), names, steps -/
abbrev Lv : Type := (Nat → Int) × (Nat → Int → Int) × (Nat → Int → Int64) × List (Nat × Int32)
abbrev vN (ν : Lv) : Nat → Int := ν.1
abbrev vV (ν : Lv) : Nat → Int → Int := ν.2.1
abbrev vW (ν : Lv) : Nat → Int → Int64 := ν.2.2.1
abbrev vH (ν : Lv) : List (Nat × Int32) := ν.2.2.2
def wfL (ν : Lv) : Prop := ((1 ≤ vN ν 8 ∧ vN ν 8 ≤ 8) ∧ (1 ≤ vN ν 9 ∧ vN ν 9 ≤ 6) ∧ (0 ≤ vN ν 10 ∧ vN ν 10 ≤ 2000) ∧ (0 ≤ vN ν 11 ∧ vN ν 11 ≤ 16) ∧ (0 ≤ vN ν 12 ∧ vN ν 12 ≤ 6) ∧ (0 ≤ vN ν 13 ∧ vN ν 13 ≤ 60) ∧ (vN ν 6 = 0 ∨ vN ν 6 = 1) ∧ (vN ν 7 = 0 ∨ vN ν 7 = 1) ∧ (0 ≤ vN ν 14 ∧ vN ν 14 ≤ 100) ∧ (0 ≤ vN ν 15 ∧ vN ν 15 ≤ 999) ∧ (0 ≤ vN ν 0 ∧ vN ν 0 ≤ 4) ∧ (0 ≤ vN ν 1 ∧ vN ν 1 ≤ 7)) ∧
  (∀ z, 0 ≤ z → z < 56 → (0 ≤ vV ν 0 z ∧ vV ν 0 z ≤ 7) ∧ (vV ν 1 z = 0 ∨ vV ν 1 z = 1) ∧ (vV ν 2 z = 0 ∨ vV ν 2 z = 1) ∧ (vV ν 1 z = 0 → vV ν 0 z = 0) ∧ (8 * vN ν 9 ≤ z → vV ν 1 z = 0)) ∧
  (∀ b, 0 ≤ b → b < vN ν 0 → (0 ≤ vV ν 3 b ∧ vV ν 3 b ≤ 99) ∧ (0 ≤ vV ν 4 b ∧ vV ν 4 b < vN ν 8) ∧ (0 ≤ vV ν 5 b ∧ vV ν 5 b ≤ 99)) ∧ (∀ b, 0 ≤ b → b < vN ν 1 → 0 ≤ vV ν 6 b ∧ vV ν 6 b ≤ 99) ∧
  (vH ν = [] ∨ (okD (vH ν) 0 = true ∧ (vH ν).length ≤ 320)) ∧ (vN ν 16 = 0 ∨ vN ν 16 = 1) ∧ (vN ν 17 = 0 → vN ν 0 = 0 ∧ ∀ z, 0 ≤ z → z < 56 → vV ν 1 z = 0)
/-- the model's side -/
def ML (s : mS) (ν : Lv) : Prop := (s.1 38 = iI (vN ν 8) ∧ s.1 39 = iI (vN ν 9) ∧ s.1 40 = iI (vN ν 11) ∧ s.1 41 = iI (vN ν 12) ∧ s.1 42 = iI (vN ν 0) ∧ s.1 43 = iI (vN ν 1) ∧ s.1 44 = iI (vN ν 14) ∧ s.1 45 = iI (vN ν 15) ∧ s.1 51 = iI (vN ν 16) ∧ s.1 52 = iI (vN ν 6) ∧ s.1 53 = iI (vN ν 7) ∧ s.1 24 = iI (if vH ν = [] then 0 else 1) ∧ s.1 20 = iI (vN ν 13)) ∧
  (∀ z, 0 ≤ z → z < 56 → s.2.2.1 10 z.toNat = iI (if vV ν 1 z = 1 then vV ν 0 z else -1) ∧ s.2.2.1 11 z.toNat = iI (if vV ν 2 z = 1 then 1 else -1)) ∧
  (ar s 12 (vN ν 0) (vV ν 3) ∧ ar s 13 (vN ν 0) (vV ν 4) ∧ ar s 14 (vN ν 0) (vV ν 5) ∧ ar s 15 (vN ν 1) (vV ν 6)) ∧
  ((∀ k : Nat, (k : Int) < vN ν 0 → s.2.2.2 k = vW ν 0 k) ∧ ∀ k : Nat, (k : Int) < vN ν 1 → s.2.2.2 (4 + k) = vW ν 1 k) ∧
  (¬ vH ν = [] → s.1 17 = iI (vH ν).length ∧ ∀ k p, (vH ν)[k]? = some p → s.2.2.1 3 k = iI p.1 ∧ s.2.2.1 4 k = p.2)
def kML : List Nat := [38, 39, 40, 41, 42, 43, 44, 45, 51, 52, 53, 24, 20, 17]
def jML : List Nat := [10, 11, 12, 13, 14, 15, 100, 3, 4]
/-- the component's side -/
def CLr (G : ai_G) (O : Nat → Nat) (r : Nat) (y : yS) (ν : Lv) (bd ld : Nat → Nat) : Prop :=
  (yt y r = some (.inr 1) ∧ r + 6 < yn y) ∧
  (yr y r 0 = some (r + 1) ∧ yr y r 1 = some (r + 2) ∧ yr y r 2 = some (r + 3) ∧ yr y r 3 = some (r + 4) ∧ yr y r 4 = some (r + 5) ∧ yr y r 16 = some (r + 6)) ∧
  (yt y (r + 3) = some (.inl (0, 56)) ∧ yt y (r + 4) = some (.inl (1, 56)) ∧ yt y (r + 5) = some (.inl (1, 56)) ∧ yt y (r + 6) = some (.inl (0, 6))) ∧
  (∀ k, 6 ≤ k → k ≤ 15 → yf y r k = iI (vN ν k)) ∧
  (∀ z, 0 ≤ z → z < 56 → ya y (r + 3) z.toNat = iI (vV ν 0 z) ∧ ya y (r + 4) z.toNat = iI (vV ν 1 z) ∧ ya y (r + 5) z.toNat = iI (vV ν 2 z)) ∧
  lsY G O y (r + 1) 34 (vN ν 0) bd ∧ lsY G O y (r + 2) 35 (vN ν 1) ld ∧
  (∀ b, 0 ≤ b → b < vN ν 0 → yt y (bd b.toNat) = some (.inr 9) ∧ O (bd b.toNat) = 36 ∧ bd b.toNat < yn y ∧ yf y (bd b.toNat) 1 = iI (vV ν 3 b) ∧ yf y (bd b.toNat) 2 = iI (vV ν 4 b) ∧ yf y (bd b.toNat) 3 = iI (vV ν 5 b) ∧ yj y (bd b.toNat) 0 = vW ν 0 b) ∧
  (∀ l, 0 ≤ l → l < vN ν 1 → yt y (ld l.toNat) = some (.inr 10) ∧ O (ld l.toNat) = 37 ∧ ld l.toNat < yn y ∧ yf y (ld l.toNat) 1 = iI (vV ν 6 l) ∧ yj y (ld l.toNat) 0 = vW ν 1 l) ∧
  ((vH ν = [] ∧ yr y r 5 = none) ∨ ∃ q, yr y r 5 = some q ∧ trY O y 64 q (vH ν))
def pCL : List Nat := [5, 34, 134, 35, 135, 36, 136, 37, 137, 38, 1, 101]
/-- labels of what is read -/
def labO (O : Nat → Nat) (N0 R A F r : Nat) : Prop := O R = 30 ∧ O r = 5 ∧ O (r + 1) = 34 ∧ O (r + 2) = 35 ∧ (O (r + 3) = 38 ∧ O (r + 4) = 38 ∧ O (r + 5) = 38) ∧ O (r + 6) = 39 ∧ (∀ a, a < N0 → O a = if a = F then 57 else 50) ∧ F < N0 ∧ A < N0 ∧ N0 ≤ R ∧ N0 ≤ r ∧ ¬ R = r
/-- cells below N0 are kept, but for the ints of F; c cells, d slots are new at most -/
def kpY (N0 F c d : Nat) (y y' : yS) : Prop := (yn y ≤ yn y' ∧ yn y' ≤ yn y + c ∧ yu y' ≤ yu y + d) ∧ ∀ a, a < N0 → yt y' a = yt y a ∧ ya y' a = ya y a ∧ ye y' a = ye y a ∧ yr y' a = yr y a ∧ yj y' a = yj y a ∧ (¬ a = F → yf y' a = yf y a)
def LK : List Nat := [2, 3, 4, 6, 7, 8, 100, 17, 19, 20, 22, 23, 24, 38, 39, 40, 41, 42, 43, 44, 45, 51, 52, 53]
def LJ : List Nat := [3, 4, 7, 10, 11, 12, 13, 14, 15, 100]
/-- both sides between two tokens of a line -/
def LZ (G : ai_G) (T : Int → Int) (n : Int) (N0 R A F r : Nat) (O : Nat → Nat) (y : yS) (s : mS) (τ : Tk) (ν : Lv) (bd ld : Nat → Nat) : Prop := (RB T n R A F r y ∧ CT y R τ ∧ tkO T n τ) ∧ labO O N0 R A F r ∧ oldY G y ∧ CLr G O r y ν bd ld ∧ (MX T n s ∧ MT s τ ∧ s.1 2 = iI 0 ∧ s.1 3 = iI (-1)) ∧ ML s ν ∧ wfL ν
section N0
variable {G : ai_G} {T : Int → Int} {n : Int} {N0 R A F r : Nat} {O : Nat → Nat} {y y1 y2 : yS} {s s1 : mS} {τ τ1 : Tk} {ν : Lv} {bd ld : Nat → Nat} {c d c1 d1 : Nat} {L K J : List Nat}
theorem kpY.refl : kpY N0 F 0 0 y y := ⟨⟨Nat.le_refl _, Nat.le_refl _, Nat.le_refl _⟩, fun _ _ => ⟨rfl, rfl, rfl, rfl, rfl, fun _ => rfl⟩⟩
theorem kpY.trans (a : kpY N0 F c d y y1) (b : kpY N0 F c1 d1 y1 y2) : kpY N0 F (c + c1) (d + d1) y y2 := by
  obtain ⟨⟨a1, a2, a3⟩, a4⟩ := a
  obtain ⟨⟨b1, b2, b3⟩, b4⟩ := b
  refine ⟨⟨by omega, by omega, by omega⟩, fun q hq => ?_⟩
  obtain ⟨u1, u2, u3, u4, u5, u6⟩ := a4 q hq
  obtain ⟨v1, v2, v3, v4, v5, v6⟩ := b4 q hq
  exact ⟨v1.trans u1, v2.trans u2, v3.trans u3, v4.trans u4, v5.trans u5, fun z => (v6 z).trans (u6 z)⟩
theorem kpY.mono (a : kpY N0 F c d y y1) (hc : c ≤ c1) (hd : d ≤ d1) : kpY N0 F c1 d1 y y1 := ⟨⟨a.1.1, by have := a.1.2.1; omega, by have := a.1.2.2; omega⟩, a.2⟩
theorem yF.kp (f : yF O L c d y y1) (hO : labO O N0 R A F r) (hn : N0 ≤ yn y) (hL : L.all (fun k => !([50, 57, 150].contains k)) = true) : kpY N0 F c d y y1 := by
  refine ⟨f.1, fun a ha => ?_⟩
  have hl := hO.2.2.2.2.2.2.1 a ha
  have h0 : L.contains (O a) = false := by
    rw [hl]
    by_cases z : a = F
    · rw [if_pos z]; exact off_all hL rfl
    · rw [if_neg z]; exact off_all hL rfl
  obtain ⟨u1, u2, u3, u4⟩ := f.2.2.1 a (by omega) h0
  refine ⟨f.tag (by omega), u1, u2, u3, u4, fun z => ?_⟩
  rw [if_neg z] at hl
  funext k
  exact f.int (by omega) (by rw [lbF_ne hl (by decide)]; exact off_all hL rfl)
theorem rdY.kp (f : rdY R y y1) (hR : N0 ≤ R) : kpY N0 F 0 0 y y1 := by
  obtain ⟨⟨a1, a2, a3, a4, a5, a6⟩, a7, a8⟩ := f
  refine ⟨⟨by omega, by omega, by omega⟩, fun a ha => ?_⟩
  obtain ⟨b1, b2⟩ := a7 a (by omega)
  exact ⟨by rw [a1], by rw [a2], by rw [a4], by rw [a3], b2, fun _ => b1⟩
theorem kp_wr {k p : Int} : kpY N0 F 0 0 y (wrY y F k p) := by
  refine ⟨⟨Nat.le_refl _, Nat.le_refl _, Nat.le_refl _⟩, fun a ha => ⟨rfl, rfl, rfl, rfl, rfl, fun z => ?_⟩⟩
  funext j
  unfold wrY
  rw [sF_get, if_neg (by omega), sF_get, if_neg (by omega)]
theorem wr_get {k p : Int} : yf (wrY y F k p) F 0 = iI k ∧ yf (wrY y F k p) F 1 = iI p := by
  unfold wrY
  refine ⟨?_, ?_⟩
  · rw [sF_get, if_neg (by omega), sF_get, if_pos ⟨rfl, rfl⟩]
  · rw [sF_get, if_pos ⟨rfl, rfl⟩]
theorem ML.fr (h : ML s ν) (f : fr K J s s1) (hK : K.all (fun k => !(kML.contains k)) = true) (hJ : J.all (fun k => !(jML.contains k)) = true) : ML s1 ν := by
  obtain ⟨⟨a1, a2, a3, a4, a5, a6, a7, a8, a9, a10, a11, a12, a13⟩, b, ⟨c1, c2, c3, c4⟩, ⟨d1, d2⟩, e⟩ := h
  refine ⟨⟨?_, ?_, ?_, ?_, ?_, ?_, ?_, ?_, ?_, ?_, ?_, ?_, ?_⟩, fun z z1 z2 => ?_, ⟨f.ar c1 (off_all hJ rfl), f.ar c2 (off_all hJ rfl), f.ar c3 (off_all hJ rfl), f.ar c4 (off_all hJ rfl)⟩, ⟨fun k hk => ?_, fun k hk => ?_⟩, fun hH => ?_⟩
  · rw [f.s 38 (off_all hK rfl)]; exact a1
  · rw [f.s 39 (off_all hK rfl)]; exact a2
  · rw [f.s 40 (off_all hK rfl)]; exact a3
  · rw [f.s 41 (off_all hK rfl)]; exact a4
  · rw [f.s 42 (off_all hK rfl)]; exact a5
  · rw [f.s 43 (off_all hK rfl)]; exact a6
  · rw [f.s 44 (off_all hK rfl)]; exact a7
  · rw [f.s 45 (off_all hK rfl)]; exact a8
  · rw [f.s 51 (off_all hK rfl)]; exact a9
  · rw [f.s 52 (off_all hK rfl)]; exact a10
  · rw [f.s 53 (off_all hK rfl)]; exact a11
  · rw [f.s 24 (off_all hK rfl)]; exact a12
  · rw [f.s 20 (off_all hK rfl)]; exact a13
  · rw [f.a 10 (off_all hJ rfl), f.a 11 (off_all hJ rfl)]; exact b z z1 z2
  · rw [f.n (off_all hJ rfl)]; exact d1 k hk
  · rw [f.n (off_all hJ rfl)]; exact d2 k hk
  · rw [f.s 17 (off_all hK rfl), f.a 3 (off_all hJ rfl), f.a 4 (off_all hJ rfl)]; exact e hH
theorem CLr.fr {N' : Nat → Int} (h : CLr G O r y ν bd ld) (hO : labO O N0 R A F r) (f : yF O L c d y y1) (hL : L.all (fun k => !(pCL.contains k)) = true) (hi : ∀ k, 6 ≤ k → k ≤ 15 → yf y1 r k = iI (N' k)) (h0 : N' 0 = vN ν 0) (h1 : N' 1 = vN ν 1) : CLr G O r y1 (N', vV ν, vW ν, vH ν) bd ld := by
  obtain ⟨⟨a1, a2⟩, b, ⟨c1, c2, c3, c4⟩, dd, e, l1, l2, bs, ls, ht⟩ := h
  obtain ⟨-, o0, o1, o2, ⟨o3, o4, o5⟩, -⟩ := hO
  have hn := f.nx
  have er : yr y1 r = yr y r := f.ref (by omega) (by rw [o0]; exact off_all hL rfl)
  have l1' := l1.fr f (off_all hL rfl) (off_all hL rfl) rfl
  have l2' := l2.fr f (off_all hL rfl) (off_all hL rfl) rfl
  refine ⟨⟨by rw [f.tag (by omega)]; exact a1, by omega⟩, by rw [er]; exact b, ⟨by rw [f.tag (by omega)]; exact c1, by rw [f.tag (by omega)]; exact c2, by rw [f.tag (by omega)]; exact c3, by rw [f.tag (by omega)]; exact c4⟩, hi, fun z z1 z2 => ?_, ?_, ?_, fun b b1 b2 => ?_, fun l k1 k2 => ?_, ?_⟩
  · rw [f.arr (a := r + 3) (by omega) (by rw [o3]; exact off_all hL rfl), f.arr (a := r + 4) (by omega) (by rw [o4]; exact off_all hL rfl), f.arr (a := r + 5) (by omega) (by rw [o5]; exact off_all hL rfl)]
    exact e z z1 z2
  · show lsY G O y1 (r + 1) 34 (N' 0) bd
    rw [h0]; exact l1'
  · show lsY G O y1 (r + 2) 35 (N' 1) ld
    rw [h1]; exact l2'
  · replace b2 : b < N' 0 := b2
    obtain ⟨g1, g2, g3, g4, g5, g6, g7⟩ := bs b b1 (by omega)
    have ef : ∀ k, yf y1 (bd b.toNat) k = yf y (bd b.toNat) k := fun k => f.int g3 (by rw [lbF_ne g2 (by decide)]; exact off_all hL rfl)
    exact ⟨by rw [f.tag g3]; exact g1, g2, by omega, by rw [ef]; exact g4, by rw [ef]; exact g5, by rw [ef]; exact g6, by rw [f.lng g3 (by rw [g2]; exact off_all hL rfl)]; exact g7⟩
  · replace k2 : l < N' 1 := k2
    obtain ⟨g1, g2, g3, g4, g5⟩ := ls l k1 (by omega)
    have ef : ∀ k, yf y1 (ld l.toNat) k = yf y (ld l.toNat) k := fun k => f.int g3 (by rw [lbF_ne g2 (by decide)]; exact off_all hL rfl)
    exact ⟨by rw [f.tag g3]; exact g1, g2, by omega, by rw [ef]; exact g4, by rw [f.lng g3 (by rw [g2]; exact off_all hL rfl)]; exact g5⟩
  · rw [er]
    rcases ht with ht | ⟨q, q1, q2⟩
    · exact Or.inl ht
    · exact Or.inr ⟨q, q1, trY.fr f (off_all hL rfl) (off_all hL rfl) _ _ _ q2⟩
theorem CLr.rd (h : CLr G O r y ν bd ld) (hO : labO O N0 R A F r) (f : rdY R y y1) : CLr G O r y1 ν bd ld := by
  have hr : ¬ r = R := fun z => hO.2.2.2.2.2.2.2.2.2.2.2 z.symm
  exact h.fr (N' := vN ν) hO (f.yF hO.1) rfl (fun k k1 k2 => by rw [(f.2.1 r hr).1]; exact h.2.2.2.1 k k1 k2) rfl rfl
/-- both go on to the next token -/
theorem LZ.rd (h : LZ G T n N0 R A F r O y s τ ν bd ld) (f : rdY R y y1) (hc : CT y1 R τ1) (ht : tkO T n τ1) (hm : MT s1 τ1) (g : fr [4, 6, 7, 8, 100] [] s s1) : LZ G T n N0 R A F r O y1 s1 τ1 ν bd ld := by
  obtain ⟨⟨a1, a2, a3⟩, b, cc, dd, ⟨e1, e2, e3, e4⟩, ff, gg⟩ := h
  exact ⟨⟨a1.rd f, hc, ht⟩, b, cc.rd f, dd.rd b f, ⟨MX.fr (K := [4, 6, 7, 8, 100]) (J := []) e1 g rfl rfl, hm, by rw [g.s 2 rfl]; exact e3, by rw [g.s 3 rfl]; exact e4⟩, ff.fr g rfl rfl, gg⟩
theorem LZ.tko (h : LZ G T n N0 R A F r O y s τ ν bd ld) : tkO T n τ := h.1.2.2
theorem LZ.adv (hT : txO T n) (h : LZ G T n N0 R A F r O y s τ ν bd ld) (h3 : ¬ tS τ = 3) : ∃ y1 s1, fy_Reader_next G y R = some y1 ∧ fm_token s = some s1 ∧ LZ G T n N0 R A F r O y1 s1 (tk T n (tE τ)) ν bd ld ∧ kpY N0 F 0 0 y y1 ∧ fr [4, 6, 7, 8, 100] [] s s1 := by
  obtain ⟨y1, k1, k2, k3⟩ := c_adv (G := G) hT h.1.1 h.1.2.1 h.1.2.2 h3
  obtain ⟨s1, j1, j2, j3⟩ := m_adv hT h.2.2.2.2.1.1 h.2.2.2.2.1.2.1 h.1.2.2 h3
  have tb := h.1.2.2.1
  exact ⟨y1, s1, k1, j1, h.rd k2 k3 (tk_ok (by omega) (by omega)).1 j2 j3, k2.kp h.2.1.2.2.2.2.2.2.2.2.2.1, j3⟩
/-- a number, both sides -/
theorem LZ.num (hT : txO T n) (h : LZ G T n N0 R A F r O y s τ ν bd ld) {a b : Int} (ha : -10000 ≤ a ∧ a ≤ 10000) (hb : -10000 ≤ b ∧ b ≤ 10000) : (nmK τ a b = 0 ∧ ∃ y1 s1, fy_Reader_number G y R (iI a) (iI b) = some (.inr (iI (tN τ)), y1) ∧ fm_toldNumber s (iI a) (iI b) = some (iI (tN τ), s1) ∧ LZ G T n N0 R A F r O y1 s1 (tk T n (tE τ)) ν bd ld ∧ kpY N0 F 0 0 y y1 ∧ fr [4, 6, 7, 8, 100] [] s s1 ∧ (a ≤ tN τ ∧ tN τ ≤ b) ∧ tP τ < tE τ) ∨ ∃ k v, (1 ≤ k ∧ k ≤ 4) ∧ fy_Reader_number G y R (iI a) (iI b) = some (.inl F, wrY y F k (tP τ)) ∧ fm_toldNumber s (iI a) (iI b) = some (v, wrM s k (tP τ)) := by
  obtain ⟨k1, k2⟩ := c_number (G := G) hT h.1.1 h.1.2.1 h.1.2.2 ha hb
  obtain ⟨j1, j2⟩ := m_number hT h.2.2.2.2.1.1 h.2.2.2.2.1.2.1 h.1.2.2 h.2.2.2.2.1.2.2.1 ha hb
  have nb := nmK_b τ a b
  by_cases z : nmK τ a b = 0
  · left
    obtain ⟨y1, k3, k4, k5⟩ := k1 z
    obtain ⟨s1, j3, j4, j5⟩ := j1 z
    have tb := h.1.2.2.1
    obtain ⟨z1, z2, z3⟩ := nmK_0.mp z
    exact ⟨z, y1, s1, k3, j3, h.rd k4 k5 (tk_ok (by omega) (by omega)).1 j4 j5, k4.kp h.2.1.2.2.2.2.2.2.2.2.2.1, j5, ⟨z2, z3⟩, h.1.2.2.2.2.2.1 (by omega) (by omega)⟩
  · right
    obtain ⟨v, j3⟩ := j2 z
    exact ⟨nmK τ a b, v, by omega, k2 z, j3⟩
end N0

/-! LAYER 3, the formula: the component -/
set_option maxRecDepth 100000
def LF : List Nat := [30, 130, 213, 157]
/-- the component within a formula: token, units, own units, depth -/
def CF (G : ai_G) (O : Nat → Nat) (T : Int → Int) (n : Int) (R A F r : Nat) (y : yS) (τ : Tk) (u m d : Int) : Prop := (RB T n R A F r y ∧ CT y R τ ∧ tkO T n τ) ∧ (yt y r = some (.inr 1) ∧ r < yn y ∧ yf y r 13 = iI u) ∧ (yf y R 10 = iI m ∧ yf y R 9 = iI d) ∧ oldY G y ∧ (¬ R = r ∧ O R = 30 ∧ O r = 5 ∧ O F = 57 ∧ F < yn y ∧ A < yn y ∧ ∀ a, yn y ≤ a → O a = 1)
/-- nothing but the fields of one object has changed -/
def atY (a : Nat) (y y' : yS) : Prop := (yt y' = yt y ∧ ya y' = ya y ∧ ye y' = ye y ∧ yj y' = yj y ∧ yn y' = yn y ∧ yu y' = yu y) ∧ ∀ b, ¬ b = a → yf y' b = yf y b ∧ yr y' b = yr y b
section M3
variable {G : ai_G} {O : Nat → Nat} {T : Int → Int} {n : Int} {R A F r a : Nat} {y y1 y2 : yS} {τ τ' : Tk} {u m d : Int} {L : List Nat} {c e : Nat}
theorem atY.refl : atY a y y := ⟨⟨rfl, rfl, rfl, rfl, rfl, rfl⟩, fun _ _ => ⟨rfl, rfl⟩⟩
theorem atY.sf {k : Nat} {v : Int32} (h : atY a y y1) : atY a y (sF y1 a k v) := by
  refine ⟨h.1, fun b hb => ⟨?_, (h.2 b hb).2⟩⟩
  rw [← (h.2 b hb).1]
  funext j
  rw [sF_get, if_neg (by omega)]
theorem atY.sr {k : Nat} {v : Option Nat} (h : atY a y y1) : atY a y (sR y1 a k v) := by
  refine ⟨h.1, fun b hb => ⟨(h.2 b hb).1, ?_⟩⟩
  rw [← (h.2 b hb).2]
  funext j
  rw [sR_get, if_neg (by omega)]
theorem yF.at (f : yF O L c e y y1) (h : atY a y1 y2) (ha : yn y ≤ a) : yF O L c e y y2 := by
  obtain ⟨⟨a1, a2, a3, a4, a5, a6⟩, a7⟩ := h
  obtain ⟨⟨f1, f2, f3⟩, f4, f5, f6⟩ := f
  refine ⟨⟨by omega, by omega, by omega⟩, fun q hq => by rw [a1]; exact f4 q hq, fun q hq hl => ?_, fun q k hq hl => ?_⟩
  · obtain ⟨g1, g2, g3, g4⟩ := f5 q hq hl
    exact ⟨by rw [a2]; exact g1, by rw [a3]; exact g2, by rw [(a7 q (by omega)).2]; exact g3, by rw [a4]; exact g4⟩
  · rw [(a7 q (by omega)).1]; exact f6 q k hq hl
theorem RB.at (h : RB T n R A F r y) (f : atY a y y1) (ha : ¬ R = a) : RB T n R A F r y1 := by
  obtain ⟨⟨a1, a2, a3, a4, a5, a6⟩, a7⟩ := f
  obtain ⟨⟨h1, h2⟩, ⟨h3, h4, h5, h6⟩, ⟨h7, h8⟩, h9⟩ := h
  obtain ⟨b1, b2⟩ := a7 R ha
  exact ⟨⟨by rw [a1]; exact h1, by omega⟩, ⟨by rw [b2]; exact h3, by rw [b1]; exact h4, by rw [b2]; exact h5, by rw [b2]; exact h6⟩, ⟨by rw [a1]; exact h7, by rw [a2]; exact h8⟩, by rw [a1]; exact h9⟩
theorem CT.at (h : CT y R τ) (f : atY a y y1) (ha : ¬ R = a) : CT y1 R τ := by
  obtain ⟨b1, b2⟩ := f.2 R ha
  unfold CT
  rw [b1, f.1.2.2.2.1]
  exact h
theorem CF.at (h : CF G O T n R A F r y τ u m d) (f : atY a y y1) (h1 : ¬ R = a) (h2 : ¬ r = a) : CF G O T n R A F r y1 τ u m d := by
  obtain ⟨⟨k1, k2, k3⟩, ⟨k4, k5, k6⟩, ⟨k7, k8⟩, k9, k10, k11, k12, k13, k14, k15, k16⟩ := h
  have en := f.1.2.2.2.2.1
  have et := f.1.1
  refine ⟨⟨k1.at f h1, k2.at f h1, k3⟩, ⟨by rw [et]; exact k4, by omega, by rw [(f.2 r h2).1]; exact k6⟩, ⟨by rw [(f.2 R h1).1]; exact k7, by rw [(f.2 R h1).1]; exact k8⟩, fun q c hc => ?_, k10, k11, k12, k13, by omega, by omega, fun q hq => k16 q (by omega)⟩
  rw [et, en]
  exact k9 q c hc
theorem CF.rd (h : CF G O T n R A F r y τ u m d) (f : rdY R y y1) (hc : CT y1 R τ') (ht : tkO T n τ') : CF G O T n R A F r y1 τ' u m d := by
  obtain ⟨⟨k1, k2, k3⟩, ⟨k4, k5, k6⟩, ⟨k7, k8⟩, k9, k10, k11, k12, k13, k14, k15, k16⟩ := h
  have en := f.1.2.2.2.2.1
  have et := f.1.1
  exact ⟨⟨k1.rd f, hc, ht⟩, ⟨by rw [et]; exact k4, by omega, by rw [(f.2.1 r (fun z => k10 z.symm)).1]; exact k6⟩, ⟨by rw [f.2.2 10 (by omega)]; exact k7, by rw [f.2.2 9 (by omega)]; exact k8⟩, k9.rd f, k10, k11, k12, k13, by omega, by omega, fun q hq => k16 q (by omega)⟩
theorem rdY.yF (f : rdY R y y1) (hO : O R = 30) : yF O LF 0 0 y y1 := by
  obtain ⟨⟨a1, a2, a3, a4, a5, a6⟩, a7, a8⟩ := f
  refine ⟨⟨by omega, by omega, by omega⟩, fun q hq => by rw [a1], fun q hq hl => ?_, fun q k hq hl => ?_⟩
  · have hne : ¬ q = R := fun z => by rw [z, hO] at hl; exact absurd hl (by decide)
    exact ⟨by rw [a2], by rw [a4], by rw [a3], (a7 q hne).2⟩
  · have hne : ¬ q = R := fun z => by
      rw [z, lbF_ne hO (by decide)] at hl
      exact absurd hl (by decide)
    rw [(a7 q hne).1]
theorem RB.fr0 (h : RB T n R A F r y) (f : yF O [] c e y y1) (hA : A < yn y) (hF : F < yn y) : RB T n R A F r y1 := by
  obtain ⟨⟨h1, h2⟩, ⟨h3, h4, h5, h6⟩, ⟨h7, h8⟩, h9⟩ := h
  have hn := f.nx
  have er := f.ref h2 rfl
  exact ⟨⟨by rw [f.tag h2]; exact h1, by omega⟩, ⟨by rw [er]; exact h3, by rw [f.int h2 rfl]; exact h4, by rw [er]; exact h5, by rw [er]; exact h6⟩, ⟨by rw [f.tag hA]; exact h7, by rw [f.arr hA rfl]; exact h8⟩, by rw [f.tag hF]; exact h9⟩
theorem CT.fr0 (h : CT y R τ) (f : yF O [] c e y y1) (hR : R < yn y) : CT y1 R τ := by
  unfold CT
  rw [f.int hR rfl, f.int hR rfl, f.int hR rfl, f.int hR rfl, f.lng hR rfl]
  exact h
theorem CF.fr0 (h : CF G O T n R A F r y τ u m d) (f : yF O [] c e y y1) : CF G O T n R A F r y1 τ u m d := by
  obtain ⟨⟨k1, k2, k3⟩, ⟨k4, k5, k6⟩, ⟨k7, k8⟩, k9, k10, k11, k12, k13, k14, k15, k16⟩ := h
  have hn := f.nx
  have hR := k1.1.2
  exact ⟨⟨k1.fr0 f k15 k14, k2.fr0 f hR, k3⟩, ⟨by rw [f.tag k5]; exact k4, by omega, by rw [f.int k5 rfl]; exact k6⟩, ⟨by rw [f.int hR rfl]; exact k7, by rw [f.int hR rfl]; exact k8⟩, k9.fr f, k10, k11, k12, k13, by omega, by omega, fun q hq => k16 q (by omega)⟩
/-- depth, own units, units are set -/
theorem CF.deep (h : CF G O T n R A F r y τ u m d) (v : Int) : wI 8 9 y R (iI v) = some (sF y R 9 (iI v)) ∧ CF G O T n R A F r (sF y R 9 (iI v)) τ u m v ∧ yF O LF 0 0 y (sF y R 9 (iI v)) := by
  have t0 := h.1.1.1.1
  obtain ⟨⟨k1, k2, k3⟩, ⟨k4, k5, k6⟩, ⟨k7, k8⟩, k9, k10, k11, k12⟩ := h
  refine ⟨wI_ok t0, ⟨⟨⟨k1.1, ⟨k1.2.1.1, ?_, k1.2.1.2.2.1, k1.2.1.2.2.2⟩, k1.2.2⟩, ?_, k3⟩, ⟨k4, k5, ?_⟩, ⟨?_, ?_⟩, k9, k10, k11, k12⟩, yF.refl.sf (by rw [lbF_ne k11 (by decide)]; rfl)⟩
  · rw [sF_get, if_neg (by omega)]; exact k1.2.1.2.1
  · unfold CT
    rw [sF_get, if_neg (by omega), sF_get, if_neg (by omega), sF_get, if_neg (by omega), sF_get, if_neg (by omega)]
    exact k2
  · rw [sF_get, if_neg (by omega)]; exact k6
  · rw [sF_get, if_neg (by omega)]; exact k7
  · rw [sF_get, if_pos ⟨rfl, rfl⟩]
theorem CF.mine (h : CF G O T n R A F r y τ u m d) (v : Int) : wI 8 10 y R (iI v) = some (sF y R 10 (iI v)) ∧ CF G O T n R A F r (sF y R 10 (iI v)) τ u v d ∧ yF O LF 0 0 y (sF y R 10 (iI v)) := by
  have t0 := h.1.1.1.1
  obtain ⟨⟨k1, k2, k3⟩, ⟨k4, k5, k6⟩, ⟨k7, k8⟩, k9, k10, k11, k12⟩ := h
  refine ⟨wI_ok t0, ⟨⟨⟨k1.1, ⟨k1.2.1.1, ?_, k1.2.1.2.2.1, k1.2.1.2.2.2⟩, k1.2.2⟩, ?_, k3⟩, ⟨k4, k5, ?_⟩, ⟨?_, ?_⟩, k9, k10, k11, k12⟩, yF.refl.sf (by rw [lbF_ne k11 (by decide)]; rfl)⟩
  · rw [sF_get, if_neg (by omega)]; exact k1.2.1.2.1
  · unfold CT
    rw [sF_get, if_neg (by omega), sF_get, if_neg (by omega), sF_get, if_neg (by omega), sF_get, if_neg (by omega)]
    exact k2
  · rw [sF_get, if_neg (by omega)]; exact k6
  · rw [sF_get, if_pos ⟨rfl, rfl⟩]
  · rw [sF_get, if_neg (by omega)]; exact k8
theorem CF.unit (h : CF G O T n R A F r y τ u m d) (v : Int) : wI 1 13 y r (iI v) = some (sF y r 13 (iI v)) ∧ CF G O T n R A F r (sF y r 13 (iI v)) τ v m d ∧ yF O LF 0 0 y (sF y r 13 (iI v)) := by
  obtain ⟨⟨k1, k2, k3⟩, ⟨k4, k5, k6⟩, ⟨k7, k8⟩, k9, k10, k11, k12⟩ := h
  refine ⟨wI_ok k4, ⟨⟨⟨k1.1, ⟨k1.2.1.1, ?_, k1.2.1.2.2.1, k1.2.1.2.2.2⟩, k1.2.2⟩, ?_, k3⟩, ⟨k4, k5, ?_⟩, ⟨?_, ?_⟩, k9, k10, k11, k12⟩, yF.refl.sf (by unfold lbF; rw [k12.1, if_pos rfl]; rfl)⟩
  · rw [sF_get, if_neg (by omega)]; exact k1.2.1.2.1
  · unfold CT
    rw [sF_get, if_neg (by omega), sF_get, if_neg (by omega), sF_get, if_neg (by omega), sF_get, if_neg (by omega)]
    exact k2
  · rw [sF_get, if_pos ⟨rfl, rfl⟩]
  · rw [sF_get, if_neg (by omega)]; exact k7
  · rw [sF_get, if_neg (by omega)]; exact k8
/-- the next token -/
theorem CF.adv (hT : txO T n) (h : CF G O T n R A F r y τ u m d) (h3 : ¬ tS τ = 3) : ∃ y', fy_Reader_next G y R = some y' ∧ CF G O T n R A F r y' (tk T n (tE τ)) u m d ∧ yF O LF 0 0 y y' ∧ rdY R y y' := by
  obtain ⟨y', k1, k2, k3⟩ := c_adv (G := G) hT h.1.1 h.1.2.1 h.1.2.2 h3
  have ht := h.1.2.2.1
  exact ⟨y', k1, h.rd k2 k3 (tk_ok (by omega) (by omega)).1, k2.yF h.2.2.2.2.2.1, k2⟩
theorem CF.wrong (h : CF G O T n R A F r y τ u m d) (k p : Int) : yF O LF 0 0 y (wrY y F k p) ∧ yf (wrY y F k p) F 0 = iI k ∧ yf (wrY y F k p) F 1 = iI p := by
  have hF : O F = 57 := h.2.2.2.2.2.2.2.1
  refine ⟨(yF.refl.sf (by rw [lbF_ne hF (by decide)]; rfl)).sf (by rw [lbF_ne hF (by decide)]; rfl), ?_, ?_⟩
  · unfold wrY
    rw [sF_get, if_neg (by omega), sF_get, if_pos ⟨rfl, rfl⟩]
  · unfold wrY
    rw [sF_get, if_pos ⟨rfl, rfl⟩]
theorem nO_F {k : Nat} : yF O [] 1 (ai_nf k) y (nO y k) := by
  have := (yF.refl (O := O) (L := []) (y := y)).no (k := k)
  simpa using this
/-- an object without its parts is in no tree -/
theorem trY.at (f : atY a y y1) (h : (yt y a = some (.inr 14) ∧ yr y a 1 = none) ∨ (yt y a = some (.inr 11) ∧ yr y a 0 = none)) : ∀ (k x : Nat) (l : List (Nat × Int32)), trY O y k x l → trY O y1 k x l := by
  intro k
  induction k with
  | zero => intro x l h; exact h
  | succ k ih =>
    intro x l hx
    obtain ⟨⟨b1, b2⟩, hx⟩ := hx
    have hne : ¬ x = a := by
      rintro rfl
      rcases hx with ⟨h1, -⟩ | ⟨h1, -⟩ | ⟨h1, q, l1, g1, -⟩ | ⟨h1, p, q, l1, l2, g1, -⟩
      · rcases h with ⟨z, -⟩ | ⟨z, -⟩ <;> (rw [h1] at z; cases z)
      · rcases h with ⟨z, -⟩ | ⟨z, -⟩ <;> (rw [h1] at z; cases z)
      · rcases h with ⟨z, -⟩ | ⟨-, z⟩
        · rw [h1] at z; cases z
        · rw [g1] at z; cases z
      · rcases h with ⟨-, z⟩ | ⟨z, -⟩
        · rw [g1] at z; cases z
        · rw [h1] at z; cases z
    obtain ⟨e1, e2⟩ := f.2 x hne
    refine ⟨⟨b1, by rw [f.1.2.2.2.2.1]; exact b2⟩, ?_⟩
    rw [f.1.1, e1, e2]
    rcases hx with hx | hx | ⟨hx, q, l1, g1, g2, g3⟩ | ⟨hx, p, q, l1, l2, g1, g2, g3, g4, g5⟩
    · exact Or.inl hx
    · exact Or.inr (Or.inl hx)
    · exact Or.inr (Or.inr (Or.inl ⟨hx, q, l1, g1, ih _ _ g2, g3⟩))
    · exact Or.inr (Or.inr (Or.inr ⟨hx, p, q, l1, l2, g1, g2, ih _ _ g3, ih _ _ g4, g5⟩))
end M3

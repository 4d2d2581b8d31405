/-! LAYER 3: the constructor: the object's shape -/
set_option maxRecDepth 100000
def labX (X : Nat) : Nat → Nat := fun q => blk.getD (q - X) 0
section K6
variable {G : ai_G} {X Q B : Nat} {c u : yS}
theorem labX_at (X k : Nat) : labX X (X + k) = blk.getD k 0 := by
  unfold labX
  rw [Nat.add_sub_cancel_left]
theorem rlY.r (h : rlY X Q B c u) {k j a t : Nat} (ht : yt c k = some (.inr t)) (hk : k < yn c) (e : yr c k j = some a) (ha : ¬ a = 1000000) : yr u (X + k) j = some (X + a) := by
  rw [((h.2.2 k hk).2.1 t ht).2 j, e]
  show some (shA X Q a) = _
  unfold shA
  rw [if_neg ha]
theorem ini_list (h : rlY X Q B c u) (hi : iniC c) (hQ : cst G 50 = some Q) {l : Nat} (hl : l ∈ [2, 3, 24, 25, 34]) (e : Nat → Nat) : lsY G (labX X) u (X + l) (blk.getD l 0) 0 e := by
  have hn := hi.1
  have hl2 : l < 42 := by
    simp only [List.mem_cons, List.not_mem_nil, or_false] at hl
    omega
  obtain ⟨g1, g2, g3⟩ := hi.2.2.2.2.2.2.2.2.2.1 l hl
  refine ⟨⟨h.t g1 (by omega), labX_at X l, by rw [h.1]; omega, ?_⟩, Int.le_refl _, Q, ?_, by have := h.2.1.2.1; rw [h.1]; omega, fun i hi => by omega, Or.inl ⟨rfl, hQ, h.2.1.2.2⟩⟩
  · rw [((h.2.2 l (by omega)).2.1 _ g1).1, g2]; rfl
  · rw [((h.2.2 l (by omega)).2.1 _ g1).2, g3]
    show some (shA X Q 1000000) = _
    unfold shA
    rw [if_pos rfl]
theorem ini_state (h : rlY X Q B c u) (hi : iniC c) {a lab : Nat} (ha : a ∈ [8, 15]) (e0 : blk.getD a 0 = lab) (e1 : ∀ i, 1 ≤ i → i ≤ 6 → blk.getD (a + i) 0 = lab + 20) : shY (labX X) u (X + a) lab := by
  have hn := hi.1
  have ha2 : a = 8 ∨ a = 15 := by
    simp only [List.mem_cons, List.not_mem_nil, or_false] at ha
    exact ha
  obtain ⟨g1, g2, g3, g4⟩ := hi.2.2.2.2.1 a ha
  refine ⟨h.t g1 (by omega), by rw [h.1]; omega, by rw [labX_at]; exact e0, fun i i1 i2 => ?_, fun k hk => ?_, fun k hk => ?_, ?_⟩
  · rw [Nat.add_assoc, labX_at]; exact e1 i i1 i2
  · rw [h.r g1 (by omega) (g2 k hk) (by omega)]
    congr 1
    omega
  · rw [show X + a + 1 + k = X + (a + 1 + k) by omega]
    exact h.t (g3 k hk) (by omega)
  · rw [Nat.add_assoc]
    exact h.t g4 (by omega)
theorem blk15 (i : Nat) (h1 : 1 ≤ i) (h2 : i ≤ 6) : blk.getD (15 + i) 0 = 4 + 20 := by
  have : ∀ i : Fin 7, 1 ≤ i.val → blk.getD (15 + i.val) 0 = 4 + 20 := by decide
  exact this ⟨i, by omega⟩ h1
theorem blk8 (i : Nat) (h1 : 1 ≤ i) (h2 : i ≤ 6) : blk.getD (8 + i) 0 = 3 + 20 := by
  have : ∀ i : Fin 7, 1 ≤ i.val → blk.getD (8 + i.val) 0 = 3 + 20 := by decide
  exact this ⟨i, by omega⟩ h1
theorem fldO_lt : ∀ p ∈ fldO, p.2 < 42 := by decide
theorem ini_shape (h : rlY X Q B c u) (hi : iniC c) : xS (labX X) u X (X + 1) := by
  have hn := hi.1
  have hi' := hi
  obtain ⟨-, ⟨f1, f2⟩, f3, f4, f5, ⟨f6, f7, f8⟩, f9, f10⟩ := hi
  have t28 : yt c 28 = some (.inr 4) := f4 (28, .inr 4) (by simp [tagO])
  have t29 : yt c 29 = some (.inr 5) := f4 (29, .inr 5) (by simp [tagO])
  have t38 : yt c 38 = some (.inl (5, 3)) := f4 (38, .inl (5, 3)) (by simp [tagO])
  refine ⟨⟨h.t f1 (by omega), by rw [h.1]; omega, h.r f1 (by omega) f2 (by omega)⟩, fun k _ _ => labX_at X k, fun p hp => ?_, fun p hp => h.t (f4 p hp) (by have := tagO_lt hp; omega), ini_state h hi' (by decide) rfl blk15, ⟨h.r t28 (by omega) f6 (by omega), h.r t28 (by omega) f7 (by omega), h.r t29 (by omega) f8 (by omega)⟩, fun i hi => ?_⟩
  · have := fldO_lt p hp
    exact h.r f1 (by omega) (f3 p hp) (by omega)
  · rw [((h.2.2 38 (by omega)).2.2 _ t38).2, f9 i hi]
    show some (shA X Q (39 + i)) = _
    unfold shA
    rw [if_neg (by omega)]
    congr 1
    omega
end K6

/-! LAYER 3: the constructor: the empty river -/
set_option maxRecDepth 100000
section K7
variable {G : ai_G} {X Q B : Nat} {c u : yS}
theorem ini_river (h : rlY X Q B c u) (hi : iniC c) (hQ : cst G 50 = some Q) {ρ : Rv} (e1 : rC ρ = 8) (e2 : rR ρ = 6) (e3 : rB ρ = 0) (e4 : rL ρ = 0) (e5 : rF ρ = 0) (e6 : rU ρ = 0) (e7 : ∀ z, rCu ρ z = 0) (e8 : ∀ z, rIr ρ z = 0) (e9 : rS ρ = []) (n5 : yr c 1 5 = none) (bd ld : Nat → Nat) : rivY G (labX X) u ρ (X + 1) bd ld := by
  have hn := hi.1
  have L2 := ini_list h hi hQ (l := 2) (by decide) bd
  have L3 := ini_list h hi hQ (l := 3) (by decide) ld
  obtain ⟨-, -, -, -, -, -, -, ⟨r1, r2, r3, r4, r5, r6⟩, ⟨q1, q2, q3, q4, q5⟩, -, -, z⟩ := hi
  have ha := h.2.2 1 (by omega)
  have hf := (ha.2.1 _ r1).1
  have rr : ∀ p ∈ [(0, 2), (1, 3), (2, 4), (3, 5), (4, 6), (16, 7)], yr u (X + 1) p.1 = some (X + p.2) := fun p hp => h.r r1 (by omega) (r2 p hp) (by
    have : ∀ p ∈ [(0, 2), (1, 3), (2, 4), (3, 5), (4, 6), (16, 7)], p.2 < 10 := by decide
    have := this p hp
    omega)
  have lb : ∀ i, i ≤ 6 → labX X (X + 1 + i) = blk.getD (1 + i) 0 := fun i _ => by rw [Nat.add_assoc, labX_at]
  refine ⟨⟨h.t r1 (by omega), labX_at X 1, by rw [h.1]; omega, fun i i1 i2 => ?_, lb 6 (by omega)⟩, ⟨rr (0, 2) (by decide), rr (1, 3) (by decide), rr (2, 4) (by decide), rr (3, 5) (by decide), rr (4, 6) (by decide), rr (16, 7) (by decide)⟩, ⟨h.t r3 (by omega), h.t r4 (by omega), h.t r5 (by omega), h.t r6 (by omega)⟩, ⟨?_, ?_, ?_, ?_, 0, ⟨by omega, by omega⟩, ?_⟩, fun w w1 w2 => ⟨?_, ?_⟩, by rw [e3]; exact L2, by rw [e4]; exact L3, fun b b1 b2 => by omega, fun b b1 b2 => by omega, Or.inl ⟨e9, ?_⟩⟩
  · rw [lb i (by omega)]
    have : ∀ i : Fin 6, 1 ≤ i.val → blk.getD (1 + i.val) 0 = 1 := by decide
    exact this ⟨i, by omega⟩ i1
  · rw [hf, q1, e1]; rfl
  · rw [hf, q2, e2]; rfl
  · rw [hf, q3, e5]; rfl
  · rw [hf, q4, e6]; rfl
  · rw [hf, q5]; rfl
  · rw [e7, show X + 1 + 3 = X + 4 from rfl, ((h.2.2 4 (by omega)).2.2 _ r3).1, z 4 (by decide)]; rfl
  · rw [e8, show X + 1 + 5 = X + 6 from rfl, ((h.2.2 6 (by omega)).2.2 _ r5).1, z 6 (by decide)]; rfl
  · rw [(ha.2.1 _ r1).2, n5]; rfl
end K7

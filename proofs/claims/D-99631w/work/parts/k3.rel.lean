/-! LAYER 3: the constructor: a store with plain numbers, and where it lies -/
set_option maxRecDepth 100000
/-- where a cell of the plain store lies (a million: the lists' common row Q) -/
def shA (X Q : Nat) (a : Nat) : Nat := if a = 1000000 then Q else X + a
/-- u holds from X on what c holds from nought on; B slots were used before -/
def rlY (X Q B : Nat) (c u : yS) : Prop := yn u = X + yn c ∧ (yu u = B + yu c ∧ Q < X ∧ yt u Q = none) ∧ ∀ k, k < yn c → yt u (X + k) = yt c k ∧ (∀ t, yt c k = some (.inr t) → yf u (X + k) = yf c k ∧ ∀ j, yr u (X + k) j = (yr c k j).map (shA X Q)) ∧ (∀ p, yt c k = some (.inl p) → ya u (X + k) = ya c k ∧ ∀ j, ye u (X + k) j = (ye c k j).map (shA X Q))
section K3
variable {X Q B : Nat} {c u : yS}
theorem rlY.t (h : rlY X Q B c u) {k : Nat} {t : (Nat × Nat) ⊕ Nat} (e : yt c k = some t) (hk : k < yn c) : yt u (X + k) = some t := (h.2.2 k hk).1.trans e
theorem rlY.nO (h : rlY X Q B c u) (t : Nat) : rlY X Q B (nO c t) (nO u t) := by
  obtain ⟨h1, h2, h3⟩ := h
  refine ⟨?_, ?_, fun k hk => ?_⟩
  · show yn u + 1 = X + (yn c + 1)
    omega
  · refine ⟨?_, h2.2.1, ?_⟩
    · show yu u + ai_nf t = B + (yu c + ai_nf t)
      omega
    · rw [nO_t, if_neg (by omega)]; exact h2.2.2
  · replace hk : k < yn c + 1 := hk
    by_cases e : k = yn c
    · have e2 : X + k = yn u := by omega
      rw [nO_t, nO_t, nO_f, nO_f, nO_r, nO_r, if_pos e2, if_pos e, if_pos e2, if_pos e, if_pos e2, if_pos e]
      exact ⟨rfl, fun _ _ => ⟨rfl, fun _ => rfl⟩, fun p hp => by cases hp⟩
    · have e2 : ¬ X + k = yn u := by omega
      rw [nO_t, nO_t, nO_f, nO_f, nO_r, nO_r, if_neg e2, if_neg e, if_neg e2, if_neg e, if_neg e2, if_neg e]
      exact h3 k (by omega)
theorem rlY.nA (h : rlY X Q B c u) (kd m : Nat) : rlY X Q B (nA c kd m) (nA u kd m) := by
  obtain ⟨h1, h2, h3⟩ := h
  refine ⟨?_, ?_, fun k hk => ?_⟩
  · show yn u + 1 = X + (yn c + 1)
    omega
  · refine ⟨?_, h2.2.1, ?_⟩
    · show yu u + m = B + (yu c + m)
      omega
    · rw [nA_t, if_neg (by omega)]; exact h2.2.2
  · replace hk : k < yn c + 1 := hk
    by_cases e : k = yn c
    · have e2 : X + k = yn u := by omega
      rw [nA_t, nA_t, nA_a, nA_a, nA_e, nA_e, if_pos e2, if_pos e, if_pos e2, if_pos e, if_pos e2, if_pos e]
      exact ⟨rfl, fun p hp => by (cases hp), fun _ _ => ⟨rfl, fun _ => rfl⟩⟩
    · have e2 : ¬ X + k = yn u := by omega
      rw [nA_t, nA_t, nA_a, nA_a, nA_e, nA_e, if_neg e2, if_neg e, if_neg e2, if_neg e, if_neg e2, if_neg e]
      exact h3 k (by omega)
theorem rlY.sR (h : rlY X Q B c u) (a j : Nat) (v : Option Nat) : rlY X Q B (sR c a j v) (sR u (X + a) j (v.map (shA X Q))) := by
  obtain ⟨h1, h2, h3⟩ := h
  refine ⟨h1, h2, fun k hk => ?_⟩
  obtain ⟨g1, g2, g3⟩ := h3 k hk
  refine ⟨g1, fun t ht => ⟨(g2 t ht).1, fun i => ?_⟩, g3⟩
  rw [sR_get, sR_get]
  by_cases e : k = a ∧ i = j
  · rw [if_pos e, if_pos ⟨by omega, e.2⟩]
  · rw [if_neg e, if_neg (fun z => e ⟨by omega, z.2⟩)]
    exact (g2 t ht).2 i
theorem rlY.sF (h : rlY X Q B c u) (a j : Nat) (v : Int32) : rlY X Q B (sF c a j v) (sF u (X + a) j v) := by
  obtain ⟨h1, h2, h3⟩ := h
  refine ⟨h1, h2, fun k hk => ?_⟩
  obtain ⟨g1, g2, g3⟩ := h3 k hk
  refine ⟨g1, fun t ht => ⟨?_, (g2 t ht).2⟩, g3⟩
  funext i
  rw [sF_get, sF_get]
  by_cases e : k = a ∧ i = j
  · rw [if_pos e, if_pos ⟨by omega, e.2⟩]
  · rw [if_neg e, if_neg (fun z => e ⟨by omega, z.2⟩), (g2 t ht).1]
end K3

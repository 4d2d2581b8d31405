/-! LAYER 3: a new river, both ends -/
set_option maxRecDepth 100000
section K2
variable {s s' : mS} {μ : Mu} {dz : Int}
/-- the model, when it has taken over what was read -/
theorem MR.beg (hR : okR (uR μ) s') (h22 : ar s' 22 28 (begM (uR μ) dz)) (hn : s'.1 57 = iI 0 ∧ s'.1 58 = iI 0 ∧ s'.1 75 = iI 0 ∧ s'.1 61 = iI 0) (h43 : ar s' 43 3 (fun _ => 0)) (h1 : s'.1 1 = iI (uS μ 1)) (h2 : s'.1 2 = iI (uS μ 2)) (h3 : s'.1 3 = iI (uS μ 3)) (h76 : s'.1 76 = iI (uS μ 76)) (ht : ar s' 1 1600 (uA μ 1)) : MR (uBeg μ dz) s' := by
  refine ⟨hR, h22, ⟨h1, h2, h3, hn.1, hn.2.1, hn.2.2.2, hn.2.2.1, h76⟩, ht, fun z z1 z2 => ?_, fun j hj z z1 z2 => ?_, h43, fun k i k1 k2 => ?_, fun k i k1 k2 k3 => ?_⟩
  · replace z2 : z < 0 := z2
    omega
  · replace z2 : z < 0 := z2
    omega
  · replace k2 : k < 0 + 0 := k2
    omega
  · replace k3 : (0 : Int) = 1 := k3
    omega
theorem wfM.beg (h : wfM μ) {ρ : Rv} (hw : wfR ρ) (hd : 0 ≤ dz ∧ dz < 1000) {N : Nat → Int} (h1 : 0 ≤ N 1 ∧ N 1 ≤ 1600) (h76 : 0 ≤ N 76 ∧ N 76 ≤ 100000) : wfM (uBeg (ρ, uX μ, N, uW μ, uB μ, uA μ) dz) := by
  obtain ⟨a1, a2, a3, a4, a5, a6, a7, a8, a9, a10, a11, a12⟩ := h
  refine ⟨hw, begM_wf hw hd, h1, a4, (by decide : (0 : Int) ≤ 0 ∧ (0 : Int) ≤ 0 ∧ (0 : Int) + 0 ≤ 40), fun k k1 k2 => ?_, (by decide : (0 : Int) ≤ 0 ∧ (0 : Int) ≤ 7), (by decide : (0 : Int) ≤ 0 ∧ (0 : Int) ≤ 30), h76, fun i i1 i2 => ?_, fun k => Or.inl rfl, fun k k1 k2 k3 => ?_⟩
  · replace k2 : k < 0 + 0 := k2
    omega
  · replace i2 : i < 0 := i2
    omega
  · replace k3 : (0 : Int) = 1 := k3
    omega
end K2

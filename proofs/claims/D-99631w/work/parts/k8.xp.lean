/-! LAYER 3: the constructor: the object ahead of the start -/
set_option maxRecDepth 100000
def rv0 : Rv := (fun k => if k = 0 then 8 else if k = 1 then 6 else 0, fun _ _ => 0, [])
def mu0 : Mu := (rv0, fun _ => 0, fun k => if k = 3 then -1 else 0, fun _ _ => 0, fun _ _ => 0, fun _ _ => 0)
section K8
variable {G : ai_G} {X Q B : Nat} {c u : yS}
theorem rv0_wf : wfR rv0 := by
  refine ⟨by decide, by decide, by decide, by decide, by decide, by decide, fun _ _ _ => (by decide : (0 : Int) ≤ 0 ∧ (0 : Int) ≤ 7), fun _ _ _ _ => rfl, fun _ _ _ => Or.inl rfl, fun b b1 b2 => ?_, fun l l1 l2 => ?_, Or.inl rfl, by decide⟩
  · replace b2 : b < 0 := b2
    omega
  · replace l2 : l < 0 := l2
    omega
theorem ini_XP (h : rlY X Q B c u) (hi : iniC c) (n5 : yr c 1 5 = none) (hQ : cst G 50 = some Q) (bd ld : Nat → Nat) : XP G (labX X) u mu0 X (X + 1) bd ld := by
  have hn := hi.1
  have hS := ini_shape h hi
  have hR := ini_river (ρ := rv0) h hi hQ rfl rfl rfl rfl rfl rfl (fun _ => rfl) (fun _ => rfl) rfl n5 bd ld
  have t0 := hi.2.1.1
  have hf := ((h.2.2 0 (by omega)).2.1 _ t0).1
  obtain ⟨v1, v2, v3, v4⟩ := hi.2.2.2.2.2.2.2.2.2.2.1
  have z := hi.2.2.2.2.2.2.2.2.2.2.2
  have t22 : yt c 22 = some (.inl (2, 1600)) := hi.2.2.2.1 (22, .inl (2, 1600)) (by simp [tagO])
  have t30 : yt c 30 = some (.inl (0, 8)) := hi.2.2.2.1 (30, .inl (0, 8)) (by simp [tagO])
  refine ⟨hS, hR, ini_state h hi (by decide) rfl blk8, ⟨?_, ?_, ?_, ?_⟩, fun w w1 w2 => ?_, fun i hi2 => ?_, ⟨0, fun _ => 0, ini_list h hi hQ (l := 24) (by decide) _, by decide⟩, ⟨0, fun _ => 0, ini_list h hi hQ (l := 25) (by decide) _, by decide⟩, ⟨0, fun _ => 0, ini_list h hi hQ (l := 34) (by decide) _, by decide⟩⟩
  · exact (congrFun hf 5).trans v1
  · exact (congrFun hf 6).trans v2
  · exact (congrFun hf 7).trans v3
  · exact (congrFun hf 8).trans v4
  · rw [((h.2.2 22 (by omega)).2.2 _ t22).1, z 22 (by decide)]
    show (0 : Int32) &&& iI 255 = iI 0
    decide
  · rw [((h.2.2 30 (by omega)).2.2 _ t30).1, z 30 (by decide)]; rfl
end K8

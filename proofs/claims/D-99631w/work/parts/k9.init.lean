/-! LAYER 3: the component's constructor -/
set_option maxRecDepth 100000
section K9
variable {G : ai_G} {Q : Nat} {y : yS}
theorem c_init (hQ : cst G 50 = some Q) (h1 : Q < yn y) (h2 : yt y Q = none) : ∃ y', fy_B_init G (nO y 0) (yn y) = some y' ∧ XR G y' (uBeg mu0 0) (yn y) := by
  have r : rlY (yn y) Q (yu y) yZ y := ⟨rfl, ⟨rfl, h1, h2⟩, fun k hk => absurd hk (Nat.not_lt_zero k)⟩
  obtain ⟨c, u, r1, hi, n5, e⟩ := c_init0 hQ (r.nO 0)
  have hP := ini_XP r1 hi n5 hQ (fun _ => 0) (fun _ => 0)
  obtain ⟨y', dz, e2, hd, g, hX, f⟩ := c_start hP rv0_wf (fun _ => 0) (fun _ => 0)
  have hn := hi.1
  have r15 : yf u (yn y + 1) 15 = 0 := by
    have t1 := hi.2.2.2.2.2.2.2.1.1
    have q5 := hi.2.2.2.2.2.2.2.2.1.2.2.2.2
    exact (congrFun ((r1.2.2 1 (by omega)).2.1 _ t1).1 15).trans q5
  have hz : dz = 0 := by
    have t1 := r1.t hi.2.2.2.2.2.2.2.1.1 (by omega)
    rw [gI_ok t1, r15] at g
    have g' : iI 0 = iI dz := Option.some.inj g
    rw [iI_eq (by omega) (by omega) (by omega) (by omega)] at g'
    exact g'.symm
  subst hz
  refine ⟨y', ?_, XR.of hX⟩
  have e' : fy_B_init G (nO y 0) (yn y) = (fy_B_start G u (yn y)).bind fun p => some p := e
  rw [e', e2, obs]
end K9

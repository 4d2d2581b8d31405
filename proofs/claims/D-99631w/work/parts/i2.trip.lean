/-! LAYER 3: trips: the component's answer -/
set_option maxRecDepth 100000
def triA (μ : Mu) (b : Int) : Acc := TF 8 (rL (uR μ)).toNat (upT (uR μ) (uX μ) (rBW (uR μ) b)) (1000000, uA μ 26)
def triV (μ : Mu) (b : Int) : Int := if (0 ≤ b ∧ b < rB (uR μ)) ∧ ¬ (triA μ b).1 = 1000000 then (triA μ b).1 else -1
def uTri (μ : Mu) (b : Int) : Mu := if (0 ≤ b ∧ b < rB (uR μ)) ∧ ¬ (triA μ b).1 = 1000000 then uLay μ (rL (uR μ)) (triA μ b).2 else uNil μ
section I2
variable {G : ai_G} {O : Nat → Nat} {y : yS} {μ : Mu} {X r : Nat} {bd ld : Nat → Nat}
theorem X_trips (h : XR G y μ X) (hw : wfM μ) {b : Int} (b1 : -2147483648 ≤ b) (b2 : b < 2147483648) : ∃ y', fy_B_trips G y X (iI b) = some (iI (triV μ b), y') ∧ XR G y' (uTri μ b) X ∧ bnd y y' := by
  obtain ⟨O, r, bd, ld, K, sg, h⟩ := h
  have hl := hw.1.2.2.2.1
  have hB := hw.1.2.2.1
  have f0 : yF O [213] 0 0 y (sF y X 13 (iI 0)) := yF.refl.sf (by rw [x_lb h.1]; rfl)
  have hc0 := h.xc.fr f0 rfl
  have h0 : XQ G O (sF y X 13 (iI 0)) (uNil μ) X r bd ld K sg := h.lay f0 rfl (by rw [sF_get, if_pos ⟨rfl, rfl⟩]) (fun z z1 z2 => by omega)
  unfold triV uTri fy_B_trips
  rw [show (0 : Int32) = iI 0 from rfl, x_wI h.1 rfl, obs, x_c hc0.1, obs, c_isBoard hc0.1 hc0.2.1 hw.1 b1 b2, obs]
  by_cases hb : 0 ≤ b ∧ b < rB (uR μ)
  rotate_left
  · rw [if_neg hb, if_pos (by rfl), if_neg (fun z => hb z.1), if_neg (fun z => hb z.1)]
    exact ⟨_, rfl, XR.of h0, f0.room (by omega) (by omega)⟩
  rw [if_pos hb, if_neg (by decide)]
  have hW := hw.1.2.2.2.2.2.2.2.2.2.1 b hb.1 hb.2
  have f1 : yF O [11, 10, 14, 216, 213] 0 0 y (sF (sF y X 13 (iI 0)) X 16 (iI (-1))) := ((yF.refl.sf (by rw [x_lb h.1]; rfl)).sf (by rw [x_lb h.1]; rfl))
  have hc := h.xc.fr f1 rfl
  have hst : tiI O (sF (sF y X 13 (iI 0)) X 16 (iI (-1))) X (uR μ) (uX μ) (fun _ => 0) 0 (1000000, uA μ 26) (sF (sF y X 13 (iI 0)) X 16 (iI (-1))) := by
    refine ⟨yF.refl, ?_, fun q => absurd rfl q, fun b b1 b2 => ?_, fun z z1 z2 => by omega⟩
    · rw [sF_get, if_pos ⟨rfl, rfl⟩]; rfl
    · exact h.2.2.2.2.2.2.1 b.toNat (by omega)
  obtain ⟨u, e, s⟩ := c_goTrips hc hw.1 hw.2.1 (W := rBW (uR μ) b) (by omega) (by omega) (rL (uR μ)).toNat 0 (by omega) 9 (by omega) (fun _ => 0) rfl rfl (1000000, uA μ 26) (Or.inl rfl) _ hst
  have hT : TF 8 (rL (uR μ)).toNat (fun t => upT (uR μ) (uX μ) (rBW (uR μ) b) (joinI (0 : Nat) (fun _ => 0) t)) (1000000, uA μ 26) = triA μ b := by
    refine TF_cg _ _ _ _ (fun t => ?_)
    refine upT_ext hw.1 _ _ _ _ (fun i i1 i2 => ?_)
    unfold joinI
    rw [if_neg (by omega)]
    congr 1
    omega
  rw [hT] at s
  have hab : accB 8 (triA μ b) := by
    rw [← hT]
    exact accT_TF hw.1 _ _ _ (Or.inl rfl)
  obtain ⟨s1, s2, s3, s4, -⟩ := s
  have f2 : yF O [11, 10, 14, 216, 213] 0 0 y u := f1.t0 (s1.mono rfl (by omega) (by omega))
  have hu := h.1.fr f2 rfl
  have hcu := h.xc.fr f2 rfl
  have hWu : xW u X := by
    intro i hi
    have := s4 i (by omega) (by omega)
    rw [Int.toNat_natCast] at this
    exact this
  have e16 : gI 0 16 u X = some (iI (if (triA μ b).1 = 1000000 then -1 else (triA μ b).1)) := by
    rw [gI_ok hu.1.1, s2]
  rw [show (-1 : Int32) = iI (-1) from rfl, x_wI hc0.1 rfl, obs]
  simp only [x_0 hc.1, r_0 hc.2.1, r_c0 hc.2.1, r_b hc.2.1 hb.1 hb.2, r_bc hc.2.1 hb.1 hb.2, r_bw hc.2.1 hb.1 hb.2, x_17 hc.1, x_c hc.1, obs]
  rw [show fy_B_goTrips_N G 9 (sF (sF y X 13 (iI 0)) X 16 (iI (-1))) X (iI (rBW (uR μ) b)) (iI 0) (iI 0) (X + 30) = some u from e, obs, e16, obs]
  by_cases h6 : (triA μ b).1 = 1000000
  · rw [if_pos h6, if_neg (by decide), x_wI hu rfl, obs, if_neg (fun z => z.2 h6), if_neg (fun z => z.2 h6)]
    have f3 : yF O [11, 10, 14, 216, 213] 0 0 y (sF u X 13 (iI 0)) := f2.sf (by rw [x_lb h.1]; rfl)
    refine ⟨sF u X 13 (iI 0), ?_, ?_, f3.room (by omega) (by omega)⟩
    · rw [gI_ok (h.1.fr f3 rfl).1.1, obs, sF_get, if_neg (by omega), s2, if_pos h6]
    · exact XR.of (h.layW f3 rfl hWu (by rw [sF_get, if_pos ⟨rfl, rfl⟩]) (fun z z1 z2 => by omega))
  · have hab2 : 0 ≤ (triA μ b).1 ∧ (triA μ b).1 ≤ 8 := by rcases hab with z | z <;> omega
    rw [if_neg h6, if_pos (by rw [iI_le (by omega) (by omega) (by omega) (by omega)]; omega), x_c hu, obs, c_loads hu hcu.2.1, obs, x_wI hu rfl, obs, if_pos ⟨hb, h6⟩, if_pos ⟨hb, h6⟩]
    have f3 : yF O [11, 10, 14, 216, 213] 0 0 y (sF u X 13 (iI (rL (uR μ)))) := f2.sf (by rw [x_lb h.1]; rfl)
    refine ⟨sF u X 13 (iI (rL (uR μ))), ?_, ?_, f3.room (by omega) (by omega)⟩
    · rw [gI_ok (h.1.fr f3 rfl).1.1, obs, sF_get, if_neg (by omega), s2, if_neg h6]
    · exact XR.of (h.layW f3 rfl hWu (by rw [sF_get, if_pos ⟨rfl, rfl⟩]) (fun z z1 z2 => s3 h6 z z1 z2))
end I2

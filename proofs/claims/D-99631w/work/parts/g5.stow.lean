/-! LAYER 3: stowing: the component's answer -/
set_option maxRecDepth 100000
def pLay2 : List Nat := [5, 4, 12, 13, 22, 1, 101, 3, 103, 23, 205, 206, 207, 208, 6, 8, 108, 9, 109, 26, 27, 127, 47, 25, 18, 118, 28, 128]
section G5
variable {G : ai_G} {O : Nat → Nat} {L : List Nat} {c d : Nat} {y y1 : yS} {μ : Mu} {X r : Nat} {bd ld : Nat → Nat} {K : Int → Nat} {sg : Nat → Nat}
theorem XQ.layW {n : Int} {g : Int → Int} (h : XQ G O y μ X r bd ld K sg) (f : yF O L c d y y1) (hL : L.all (fun k => !(pLay2.contains k)) = true) (hW : xW y1 X) (e1 : yf y1 X 13 = iI n) (e2 : ∀ z, 0 ≤ z → z < n → ya y1 (X + 26) z.toNat = iI (g z)) : XQ G O y1 (uLay μ n g) X r bd ld K sg := by
  obtain ⟨hS, hR, ⟨hN, hV⟩, hI, hT, hl, -, hK, hB, hG⟩ := h
  exact ⟨hS.fr f (all_sub hL rfl), hR.fr f (off_all hL rfl) (off_all hL rfl), ⟨hN.fr f (off_all hL rfl), hV.fr hN f (off_all hL rfl) (off_all hL rfl) rfl⟩, ⟨(x_f0 hS f 5 (off_all hL rfl)).trans hI.1, (x_f0 hS f 6 (off_all hL rfl)).trans hI.2.1, (x_f0 hS f 7 (off_all hL rfl)).trans hI.2.2.1, (x_f0 hS f 8 (off_all hL rfl)).trans hI.2.2.2.1, e1⟩, hT.fr hS f (off_all hL rfl), e2, hW, hK.fr f (all_sub hL rfl), hB.fr hS f (all_sub hL rfl), hG.fr f (all_sub hL rfl)⟩
theorem TF_cg {A : Type} {B : Nat} : ∀ (n : Nat) (up up' : (Int → Int) → A → A) (a : A), (∀ t, up t = up' t) → TF B n up a = TF B n up' a := by
  intro n up up' a h
  rw [show up = up' from funext h]
theorem X_stowing (h : XR G y μ X) (hw : wfM μ) : ∃ y', fy_B_stowing G y X = some (iI (stoV μ), y') ∧ XR G y' (uSto μ) X ∧ bnd y y' := by
  obtain ⟨O, r, bd, ld, K, sg, h⟩ := h
  have hl := hw.1.2.2.2.1
  have w0 := x_wI h.1 (k := 16) (v := iI (-1)) rfl
  have f0 : yF O [11, 10, 14, 216] 0 0 y (sF y X 16 (iI (-1))) := yF.refl.sf (by rw [x_lb h.1]; rfl)
  have hc := h.xc
  have hst : stI O y X (uR μ) (uX μ) (fun _ => 0) 0 (1000000, uA μ 26) (sF y X 16 (iI (-1))) := by
    refine ⟨f0, ?_, fun q => absurd rfl q, fun b b1 b2 => ?_, fun i _ _ => rfl, fun z z1 z2 => by omega⟩
    · rw [sF_get, if_pos ⟨rfl, rfl⟩]; rfl
    · exact h.2.2.2.2.2.2.1 b.toNat (by omega)
  obtain ⟨u, e, s⟩ := c_goStow hc hw.1 hw.2.1 (rL (uR μ)).toNat 0 (by omega) 9 (by omega) (fun _ => 0) (fun _ => ⟨(by decide : (0:Int) ≤ 0), (by decide : (0:Int) < 4)⟩) rfl (1000000, uA μ 26) (Or.inl rfl) _ hst
  have hT : TF 4 (rL (uR μ)).toNat (fun t => upS (uR μ) (uX μ) (joinI (0 : Nat) (fun _ => 0) t)) (1000000, uA μ 26) = stoA μ := by
    refine TF_cg _ _ _ _ (fun t => ?_)
    refine upS_ext hw.1 _ _ _ (fun i i1 i2 => ?_)
    unfold joinI
    rw [if_neg (by omega)]
    congr 1
    omega
  rw [hT] at s
  have hab : accB 8 (stoA μ) := by
    rw [← hT]
    exact accB_TF _ _ _ (Or.inl rfl)
  obtain ⟨s1, s2, s3, s4, s5, -⟩ := s
  have hu := h.1.fr s1 rfl
  have hcu := hc.fr s1 rfl
  have hW : xW u X := by
    intro i hi
    by_cases h4 : i < 4
    · have := s4 i (by omega) (by omega)
      rw [Int.toNat_natCast] at this
      exact this
    · rw [s5 i (by omega) hi]
      exact h.2.2.2.2.2.2.1 i hi
  have e16 : gI 0 16 u X = some (iI (stoV μ)) := by
    rw [gI_ok hu.1.1, s2]; rfl
  unfold fy_B_stowing
  rw [show (-1 : Int32) = iI (-1) from rfl, w0, obs]
  have h0 := h.1.fr f0 rfl
  rw [x_17 h0, obs, x_c h0, obs, show fy_B_goStow_N G 9 (sF y X 16 (iI (-1))) X 0 0 (X + 30) = some u from e, obs, e16, obs]
  by_cases h6 : (stoA μ).1 = 1000000
  · have ev : stoV μ = -1 := if_pos h6
    rw [ev, if_neg (by decide), show (0 : Int32) = iI 0 from rfl, x_wI hu rfl, obs]
    have f2 : yF O [11, 10, 14, 216, 213] 0 0 y (sF u X 13 (iI 0)) := (show yF O [11, 10, 14, 216, 213] 0 0 y u from s1.mono rfl (by omega) (by omega)).sf (by rw [x_lb h.1]; rfl)
    refine ⟨sF u X 13 (iI 0), ?_, ?_, f2.room (by omega) (by omega)⟩
    · rw [gI_ok (h.1.fr f2 rfl).1.1, obs, sF_get, if_neg (by omega), s2, if_pos h6]
    · unfold uSto uNil
      rw [if_pos h6]
      exact XR.of (h.layW f2 rfl hW (by rw [sF_get, if_pos ⟨rfl, rfl⟩]) (fun z z1 z2 => by omega))
  · have hab2 : 0 ≤ (stoA μ).1 ∧ (stoA μ).1 ≤ 8 := by rcases hab with z | z <;> omega
    have ev : stoV μ = (stoA μ).1 := if_neg h6
    rw [ev, show (0 : Int32) = iI 0 from rfl, if_pos (by rw [iI_le (by omega) (by omega) (by omega) (by omega)]; omega), x_c hu, obs, c_loads hu hcu.2.1, obs, x_wI hu rfl, obs]
    have f2 : yF O [11, 10, 14, 216, 213] 0 0 y (sF u X 13 (iI (rL (uR μ)))) := (show yF O [11, 10, 14, 216, 213] 0 0 y u from s1.mono rfl (by omega) (by omega)).sf (by rw [x_lb h.1]; rfl)
    refine ⟨sF u X 13 (iI (rL (uR μ))), ?_, ?_, f2.room (by omega) (by omega)⟩
    · rw [gI_ok (h.1.fr f2 rfl).1.1, obs, sF_get, if_neg (by omega), s2, if_neg h6]
    · unfold uSto
      rw [if_neg h6]
      exact XR.of (h.layW f2 rfl hW (by rw [sF_get, if_pos ⟨rfl, rfl⟩]) (fun z z1 z2 => s3 h6 z z1 z2))
end G5

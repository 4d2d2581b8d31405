/-! LAYER 3, the text: small readings, both sides -/
set_option maxRecDepth 100000
def wrY (y : yS) (F : Nat) (k p : Int) : yS := sF (sF y F 0 (iI k)) F 1 (iI p)
def wrM (s : mS) (k p : Int) : mS := mSi (mSi s 2 (iI k)) 3 (iI p)
def fkT (τ : Tk) : Int := if tS τ = 3 then 1 else 2
/-- the fault of a number, nought if there is none -/
def nmK (τ : Tk) (a b : Int) : Int := if tS τ = 2 then (if a ≤ tN τ ∧ tN τ ≤ b then 0 else 4) else fkT τ
theorem fkT_b (τ : Tk) : 1 ≤ fkT τ ∧ fkT τ ≤ 2 := by unfold fkT; split <;> omega
theorem nmK_b (τ : Tk) (a b : Int) : 0 ≤ nmK τ a b ∧ nmK τ a b ≤ 4 := by
  have := fkT_b τ
  unfold nmK
  split
  · split <;> omega
  · omega
theorem nmK_0 {τ : Tk} {a b : Int} : nmK τ a b = 0 ↔ tS τ = 2 ∧ a ≤ tN τ ∧ tN τ ≤ b := by
  have := fkT_b τ
  unfold nmK
  by_cases c : tS τ = 2
  · rw [if_pos c]
    by_cases d : a ≤ tN τ ∧ tN τ ≤ b
    · rw [if_pos d]; exact ⟨fun _ => ⟨c, d⟩, fun _ => rfl⟩
    · rw [if_neg d]; exact ⟨fun z => by omega, fun z => absurd z.2 d⟩
  · rw [if_neg c]; exact ⟨fun z => by omega, fun z => absurd z.1 c⟩
section L6c
variable {G : ai_G} {T : Int → Int} {n : Int} {R A F r : Nat} {y : yS} {τ : Tk}
theorem c_wrong (h : RB T n R A F r y) (hτ : CT y R τ) : fy_Reader_wrong G y R = some (F, wrY y F (fkT τ) (tP τ)) := by
  have t0 := h.1.1
  have tF := h.2.2.2
  have kb := kdT_b (tS τ)
  have key : ∀ k : Int, fy_Wrong_by G y F (iI k) (iI (tP τ)) = some (F, wrY y F k (tP τ)) := by
    intro k
    unfold fy_Wrong_by
    rw [wI_ok tF, obs, wI_ok (show yt (sF y F 0 (iI k)) F = some (.inr 3) from tF), obs]
    rfl
  unfold fy_Reader_wrong
  rw [gR_ok t0 h.2.1.2.2.1, obs, gI_ok t0, obs, hτ.2.2.1, gI_ok t0, hτ.1, ck_ok tF, show (4 : Int32) = iI 4 from rfl, show (1 : Int32) = iI 1 from rfl, show (2 : Int32) = iI 2 from rfl]
  unfold fkT
  by_cases c : tS τ = 3
  · rw [if_pos (by rw [kdT_4.mpr c]), if_pos c, obs, obs, key, obs]
  · rw [if_neg (by rw [iI_eq (by omega) (by omega) (by omega) (by omega), kdT_4]; exact c), if_neg c, obs, obs, key, obs]
theorem c_by (h : RB T n R A F r y) (k p : Int) : fy_Wrong_by G y F (iI k) (iI p) = some (F, wrY y F k p) := by
  have tF := h.2.2.2
  unfold fy_Wrong_by
  rw [wI_ok tF, obs, wI_ok (show yt (sF y F 0 (iI k)) F = some (.inr 3) from tF), obs]
  rfl
theorem ck_wr (h : RB T n R A F r y) (k p : Int) : ck 3 (wrY y F k p) F = some () := ck_ok (show yt (wrY y F k p) F = some (.inr 3) from h.2.2.2)
theorem c_adv (hT : txO T n) (h : RB T n R A F r y) (hτ : CT y R τ) (ht : tkO T n τ) (h3 : ¬ tS τ = 3) : ∃ y', fy_Reader_next G y R = some y' ∧ rdY R y y' ∧ CT y' R (tk T n (tE τ)) := c_nextT hT h (hτ.2.1 h3) (by have := ht.1; omega) ht.1.2.2
theorem c_number (hT : txO T n) (h : RB T n R A F r y) (hτ : CT y R τ) (ht : tkO T n τ) {a b : Int} (ha : -10000 ≤ a ∧ a ≤ 10000) (hb : -10000 ≤ b ∧ b ≤ 10000) : (nmK τ a b = 0 → ∃ y', fy_Reader_number G y R (iI a) (iI b) = some (.inr (iI (tN τ)), y') ∧ rdY R y y' ∧ CT y' R (tk T n (tE τ))) ∧ (¬ nmK τ a b = 0 → fy_Reader_number G y R (iI a) (iI b) = some (.inl F, wrY y F (nmK τ a b) (tP τ))) := by
  have t0 := h.1.1
  have kb := kdT_b (tS τ)
  have hN := ht.2.1
  have e6 : gI 8 6 y R = some (iI (kdT (tS τ))) := by rw [gI_ok t0, hτ.2.2.1]
  have e4 : gI 8 4 y R = some (iI (tP τ)) := by rw [gI_ok t0, hτ.1]
  have eF : gR 8 2 y R = some F := gR_ok t0 h.2.1.2.2.1
  have cF := ck_ok h.2.2.2
  refine ⟨fun z => ?_, fun z => ?_⟩
  · obtain ⟨z1, z2, z3⟩ := nmK_0.mp z
    have e7 : gI 8 7 y R = some (iI (tN τ)) := by rw [gI_ok t0, hτ.2.2.2.1 z1]
    obtain ⟨y', k1, k2, k3⟩ := c_adv (G := G) hT h hτ ht (by omega)
    refine ⟨y', ?_, k2, k3⟩
    simp (disch := omega) only [fy_Reader_number, e6, e7, iI_lit, iI_add, iI_sub, iI_mul, iI_neg, obs, if_true, if_false, Int.reduceEq, Int.reduceLE, Int.reduceLT, Int.reduceAdd, Int.reduceSub, Int.reduceMul, Int.reduceNeg, Nat.reduceEqDiff, iI_le, iI_lt, iI_eq, ck_ok t0, k1, kdT_2]
    rw [if_pos z1, if_neg (by omega), if_pos (by omega)]
  · by_cases c : tS τ = 2
    · have e7 : gI 8 7 y R = some (iI (tN τ)) := by rw [gI_ok t0, hτ.2.2.2.1 c]
      have z2 : ¬ (a ≤ tN τ ∧ tN τ ≤ b) := fun q => z (nmK_0.mpr ⟨c, q⟩)
      have e : nmK τ a b = 4 := by unfold nmK; rw [if_pos c, if_neg z2]
      have kk := c_by (G := G) h 4 (tP τ)
      have kw := ck_wr h 4 (tP τ)
      simp (disch := omega) only [fy_Reader_number, e6, e7, e4, eF, cF, iI_lit, iI_add, iI_sub, iI_mul, iI_neg, obs, if_true, if_false, Int.reduceEq, Int.reduceLE, Int.reduceLT, Int.reduceAdd, Int.reduceSub, Int.reduceMul, Int.reduceNeg, Nat.reduceEqDiff, iI_le, iI_lt, iI_eq, kdT_2, kk, kw, e]
      rw [if_pos c]
      by_cases d : tN τ < a
      · rw [if_pos d]
      · rw [if_neg d, if_neg (by omega)]
    · have e : nmK τ a b = fkT τ := by unfold nmK; rw [if_neg c]
      have kk := c_wrong (G := G) h hτ
      have kw := ck_wr h (fkT τ) (tP τ)
      simp (disch := omega) only [fy_Reader_number, e6, iI_lit, iI_add, iI_sub, iI_mul, iI_neg, obs, if_true, if_false, Int.reduceEq, Int.reduceLE, Int.reduceLT, Int.reduceAdd, Int.reduceSub, Int.reduceMul, Int.reduceNeg, Nat.reduceEqDiff, iI_le, iI_lt, iI_eq, kdT_2, kk, kw, e, ck_ok t0]
      rw [if_neg c]
theorem c_must0 (h : RB T n R A F r y) (hτ : CT y R τ) : fy_Reader_must G y R 0 = some (.inl F, wrY y F (fkT τ) (tP τ)) := by
  have kk := c_wrong (G := G) h hτ
  have kw := ck_wr h (fkT τ) (tP τ)
  unfold fy_Reader_must
  rw [if_pos rfl, ck_ok h.1.1, obs, kk, obs, kw, obs]
theorem c_must1 (hT : txO T n) (h : RB T n R A F r y) (hτ : CT y R τ) (ht : tkO T n τ) (h3 : ¬ tS τ = 3) : ∃ y', fy_Reader_must G y R 1 = some (.inr (), y') ∧ rdY R y y' ∧ CT y' R (tk T n (tE τ)) := by
  obtain ⟨y', k1, k2, k3⟩ := c_adv (G := G) hT h hτ ht h3
  refine ⟨y', ?_, k2, k3⟩
  unfold fy_Reader_must
  rw [if_neg (by decide), ck_ok h.1.1, obs, k1, obs]
theorem c_comes (hT : txO T n) (hG : okW G) (hy : oldY G y) (h : RB T n R A F r y) (hτ : CT y R τ) (ht : tkO T n τ) {a : Nat} {w : List Nat} (hS : wdG G a w) (hw : ltW w) : (isW τ w → ∃ y', fy_Reader_comes G y R a = some (1, y') ∧ rdY R y y' ∧ CT y' R (tk T n (tE τ))) ∧ (¬ isW τ w → fy_Reader_comes G y R a = some (0, y)) := by
  have e := c_isW hT hG hy h hτ ht hS hw
  have t0 := h.1.1
  refine ⟨fun z => ?_, fun z => ?_⟩
  · rw [if_pos z] at e
    have z1 := z.1
    obtain ⟨y', k1, k2, k3⟩ := c_adv (G := G) hT h hτ ht (by omega)
    refine ⟨y', ?_, k2, k3⟩
    unfold fy_Reader_comes
    rw [ck_ok t0, obs, e, obs, if_neg (by decide), obs, k1, obs]
    rfl
  · rw [if_neg z] at e
    unfold fy_Reader_comes
    rw [ck_ok t0, obs, e, obs]
    rfl
theorem c_signHere (hT : txO T n) (h : RB T n R A F r y) (hτ : CT y R τ) (ht : tkO T n τ) {c : Int} (hc : isSg c = true) : fy_Reader_isSignHere G y R (iI c) = some (if tS τ = c then 1 else 0) := by
  have t0 := h.1.1
  have kb := kdT_b (tS τ)
  have e6 : gI 8 6 y R = some (iI (kdT (tS τ))) := by rw [gI_ok t0, hτ.2.2.1]
  have e4 : gI 8 4 y R = some (iI (tP τ)) := by rw [gI_ok t0, hτ.1]
  have hc' := isSg_t.mp hc
  have hb := ht.1
  have hn := hT.1
  by_cases d : isSg (tS τ) = true ∧ tP τ < n ∧ T (tP τ) = tS τ
  · obtain ⟨d1, d2, d3⟩ := d
    have d' := isSg_t.mp d1
    have ek : kdT (tS τ) = 3 := by unfold kdT; rw [if_neg (by omega), if_neg (by omega), if_neg (by omega), if_neg (by omega)]
    have es := c_sign (G := G) hT h (k := tP τ) (by omega) (by omega)
    rw [show hs T n (tP τ) = tS τ from (if_pos d2).trans d3] at es
    simp (disch := omega) only [fy_Reader_isSignHere, e6, e4, es, ck_ok t0, ek, iI_lit, iI_add, iI_sub, iI_mul, iI_neg, obs, if_true, if_false, Int.reduceEq, Int.reduceLE, Int.reduceLT, Int.reduceAdd, Int.reduceSub, Int.reduceMul, Int.reduceNeg, Nat.reduceEqDiff, iI_le, iI_lt, iI_eq]
    by_cases z : tS τ = c
    · rw [if_pos z, if_pos z]
    · rw [if_neg z, if_neg z]
  · have hS : tS τ = 0 ∨ tS τ = 1 ∨ tS τ = 2 ∨ tS τ = 3 := by
      rcases ht.2.2.1 with q | q | q | q | q
      · exact Or.inl q
      · exact Or.inr (Or.inl q)
      · exact Or.inr (Or.inr (Or.inl q))
      · exact Or.inr (Or.inr (Or.inr q))
      · exact absurd q d
    have ek : ¬ kdT (tS τ) = 3 := by
      rcases hS with q | q | q | q <;> rw [q] <;> decide
    simp (disch := omega) only [fy_Reader_isSignHere, e6, iI_lit, iI_add, iI_sub, iI_mul, iI_neg, obs, if_true, if_false, Int.reduceEq, Int.reduceLE, Int.reduceLT, Int.reduceAdd, Int.reduceSub, Int.reduceMul, Int.reduceNeg, Nat.reduceEqDiff, iI_le, iI_lt, iI_eq]
    rw [if_neg ek, if_neg (by omega)]
end L6c
section L6m
variable {T : Int → Int} {n : Int} {s : mS} {τ : Tk}
theorem m_wrong {k : Int} (h : MT s τ) (ht : tkO T n τ) (h2 : s.1 2 = iI 0) : fm_wrong s (iI k) = some (wrM s (if tS τ = 3 then 1 else k) (tP τ)) := by
  have hb := so_b ht
  obtain ⟨h6, h7, -⟩ := h
  have e7 : ∀ v : Int32, (mSi s 2 v).1 7 = iI (tP τ) := fun v => h7
  simp (disch := omega) only [fm_wrong, h2, h6, pI, e7, iI_lit, iI_add, iI_sub, iI_mul, iI_neg, obs, if_true, if_false, Int.reduceEq, Int.reduceLE, Int.reduceLT, Int.reduceAdd, Int.reduceSub, Int.reduceMul, Int.reduceNeg, Nat.reduceEqDiff, iI_le, iI_lt, iI_eq]
  unfold wrM
  by_cases c : tS τ = 3
  · rw [if_pos c, if_pos c]
  · rw [if_neg c, if_neg c]
theorem m_adv (hT : txO T n) (hx : MX T n s) (h : MT s τ) (ht : tkO T n τ) (h3 : ¬ tS τ = 3) : ∃ s', fm_token s = some s' ∧ MT s' (tk T n (tE τ)) ∧ fr [4, 6, 7, 8, 100] [] s s' := m_token hT hx (h.2.2.1 h3) (by have := ht.1; omega) ht.1.2.2
theorem m_number (hT : txO T n) (hx : MX T n s) (h : MT s τ) (ht : tkO T n τ) (h2 : s.1 2 = iI 0) {a b : Int} (ha : -10000 ≤ a ∧ a ≤ 10000) (hb : -10000 ≤ b ∧ b ≤ 10000) : (nmK τ a b = 0 → ∃ s', fm_toldNumber s (iI a) (iI b) = some (iI (tN τ), s') ∧ MT s' (tk T n (tE τ)) ∧ fr [4, 6, 7, 8, 100] [] s s') ∧ (¬ nmK τ a b = 0 → ∃ v, fm_toldNumber s (iI a) (iI b) = some (v, wrM s (nmK τ a b) (tP τ))) := by
  have hs := so_b ht
  have hN := ht.2.1
  have h6 := h.1
  refine ⟨fun z => ?_, fun z => ?_⟩
  · obtain ⟨z1, z2, z3⟩ := nmK_0.mp z
    have h8 := h.2.2.2.1 z1
    obtain ⟨s', k1, k2, k3⟩ := m_adv hT hx h ht (by omega)
    refine ⟨s', ?_, k2, k3⟩
    simp (disch := omega) only [fm_toldNumber, fm_toldNumber_j46, h2, h6, h8, k1, iI_lit, iI_add, iI_sub, iI_mul, iI_neg, obs, if_true, if_false, Int.reduceEq, Int.reduceLE, Int.reduceLT, Int.reduceAdd, Int.reduceSub, Int.reduceMul, Int.reduceNeg, Nat.reduceEqDiff, iI_le, iI_lt, iI_eq]
    rw [if_pos z1, if_neg (by omega), if_pos (by omega)]
  · by_cases c : tS τ = 2
    · have h8 := h.2.2.2.1 c
      have z2 : ¬ (a ≤ tN τ ∧ tN τ ≤ b) := fun q => z (nmK_0.mpr ⟨c, q⟩)
      have e : nmK τ a b = 4 := by unfold nmK; rw [if_pos c, if_neg z2]
      have kk := m_wrong (k := 4) h ht h2
      rw [if_neg (by omega)] at kk
      refine ⟨iI (tN τ), ?_⟩
      have e2 : (wrM s 4 (tP τ)).1 2 = iI 4 := rfl
      have e8 : (wrM s 4 (tP τ)).1 8 = iI (tN τ) := h8
      simp (disch := omega) only [fm_toldNumber, fm_toldNumber_j41, fm_toldNumber_j46, h2, h6, h8, kk, e, e2, e8, iI_lit, iI_add, iI_sub, iI_mul, iI_neg, obs, if_true, if_false, Int.reduceEq, Int.reduceLE, Int.reduceLT, Int.reduceAdd, Int.reduceSub, Int.reduceMul, Int.reduceNeg, Nat.reduceEqDiff, iI_le, iI_lt, iI_eq]
      rw [if_pos c]
      by_cases d : tN τ < a
      · rw [if_pos d]
      · rw [if_neg d, if_neg (by omega)]
    · have e : nmK τ a b = fkT τ := by unfold nmK; rw [if_neg c]
      have fb := fkT_b τ
      have kk := m_wrong (k := 2) h ht h2
      have e2 : (wrM s (fkT τ) (tP τ)).1 2 = iI (fkT τ) := rfl
      refine ⟨(wrM s (fkT τ) (tP τ)).1 8, ?_⟩
      rw [show (if tS τ = 3 then (1 : Int) else 2) = fkT τ from rfl] at kk
      simp (disch := omega) only [fm_toldNumber, fm_toldNumber_j46, h2, h6, kk, e, e2, iI_lit, iI_add, iI_sub, iI_mul, iI_neg, obs, if_true, if_false, Int.reduceEq, Int.reduceLE, Int.reduceLT, Int.reduceAdd, Int.reduceSub, Int.reduceMul, Int.reduceNeg, Nat.reduceEqDiff, iI_le, iI_lt, iI_eq]
      rw [if_neg c, if_neg (by omega)]
theorem m_numF {k : Int} (h2 : s.1 2 = iI k) (hk : 1 ≤ k ∧ k ≤ 4) (a b : Int32) : fm_toldNumber s a b = some (iI 0, s) := by
  simp (disch := omega) only [fm_toldNumber, h2, iI_lit, iI_add, iI_sub, iI_mul, iI_neg, obs, if_true, if_false, Int.reduceEq, Int.reduceLE, Int.reduceLT, Int.reduceAdd, Int.reduceSub, Int.reduceMul, Int.reduceNeg, Nat.reduceEqDiff, iI_le, iI_lt, iI_eq]
  rw [if_neg (by omega)]
theorem m_want (hT : txO T n) (hx : MX T n s) (h : MT s τ) (ht : tkO T n τ) (h2 : s.1 2 = iI 0) {w : List Nat} : (isW τ w → ∃ s', fm_want s (wcd w) = some s' ∧ MT s' (tk T n (tE τ)) ∧ fr [4, 6, 7, 8, 100] [] s s') ∧ (¬ isW τ w → fm_want s (wcd w) = some (wrM s (fkT τ) (tP τ))) := by
  have e := m_isW (w := w) h ht
  refine ⟨fun z => ?_, fun z => ?_⟩
  · rw [if_pos z] at e
    have z1 := z.1
    obtain ⟨s', k1, k2, k3⟩ := m_adv hT hx h ht (by omega)
    refine ⟨s', ?_, k2, k3⟩
    simp (disch := omega) only [fm_want, h2, e, k1, iI_lit, iI_add, iI_sub, iI_mul, iI_neg, obs, if_true, if_false, Int.reduceEq, Int.reduceLE, Int.reduceLT, Int.reduceAdd, Int.reduceSub, Int.reduceMul, Int.reduceNeg, Nat.reduceEqDiff, iI_le, iI_lt, iI_eq]
  · rw [if_neg z] at e
    have kk := m_wrong (k := 2) h ht h2
    rw [show (if tS τ = 3 then (1 : Int) else 2) = fkT τ from rfl] at kk
    simp (disch := omega) only [fm_want, h2, e, kk, iI_lit, iI_add, iI_sub, iI_mul, iI_neg, obs, if_true, if_false, Int.reduceEq, Int.reduceLE, Int.reduceLT, Int.reduceAdd, Int.reduceSub, Int.reduceMul, Int.reduceNeg, Nat.reduceEqDiff, iI_le, iI_lt, iI_eq]
theorem m_wantF {k : Int} (h2 : s.1 2 = iI k) (hk : 1 ≤ k ∧ k ≤ 4) (w : Int64) : fm_want s w = some s := by
  simp (disch := omega) only [fm_want, h2, iI_lit, iI_add, iI_sub, iI_mul, iI_neg, obs, if_true, if_false, Int.reduceEq, Int.reduceLE, Int.reduceLT, Int.reduceAdd, Int.reduceSub, Int.reduceMul, Int.reduceNeg, Nat.reduceEqDiff, iI_le, iI_lt, iI_eq]
  rw [if_neg (by omega)]
end L6m

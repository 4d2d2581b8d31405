/-! LAYER 3, the lines: their outcomes; words; fields -/
set_option maxRecDepth 100000
def LBad {α : Type} (N0 F : Nat) (y : yS) (s : mS) (p0 : Int) (fz : Option ((Nat ⊕ α) × yS)) (mz : Option mS) : Prop := ∃ y' s' k p, fz = some (.inl F, y') ∧ mz = some s' ∧ (1 ≤ k ∧ k ≤ 4 ∧ p0 ≤ p ∧ p ≤ 1600) ∧ (yf y' F 0 = iI k ∧ yf y' F 1 = iI p) ∧ (s'.1 2 = iI k ∧ s'.1 3 = iI p) ∧ kpY N0 F (p - p0).toNat (20 * (p - p0).toNat) y y' ∧ fr LK LJ s s'
def LOk (G : ai_G) (T : Int → Int) (n : Int) (N0 R A F r : Nat) (y : yS) (s : mS) (p0 : Int) (fz : Option ((Nat ⊕ Unit) × yS)) (mz : Option mS) (Q : Lv → Prop) : Prop := ∃ O' y' s' τ' ν' bd' ld', fz = some (.inr (), y') ∧ mz = some s' ∧ LZ G T n N0 R A F r O' y' s' τ' ν' bd' ld' ∧ Q ν' ∧ kpY N0 F (tP τ' - p0).toNat (20 * (tP τ' - p0).toNat) y y' ∧ p0 < tP τ' ∧ fr LK LJ s s'
section N1
variable {G : ai_G} {T : Int → Int} {n : Int} {N0 R A F r : Nat} {O : Nat → Nat} {y y1 y2 : yS} {s s1 s2 : mS} {τ τ1 : Tk} {ν : Lv} {bd ld : Nat → Nat} {c d : Nat} {K J : List Nat} {p0 : Int}
/-- a fault is found here -/
theorem LBad.mk {α : Type} {fz : Option ((Nat ⊕ α) × yS)} {mz : Option mS} {k : Int} (ht : tkO T n τ) (hT : txO T n) (hf : fz = some (.inl F, wrY y1 F k (tP τ))) (hm : mz = some s1) (h2 : s1.1 2 = iI k) (h3 : s1.1 3 = iI (tP τ)) (hk : 1 ≤ k ∧ k ≤ 4) (f : kpY N0 F c d y y1) (g : fr LK LJ s s1) (hp : p0 ≤ tP τ) (hc : c ≤ (tP τ - p0).toNat) (hd : d ≤ 20 * (tP τ - p0).toNat) : LBad N0 F y s p0 fz mz := by
  have tb := ht.1
  have hn := hT.1
  exact ⟨_, s1, k, tP τ, hf, hm, ⟨hk.1, hk.2, hp, by omega⟩, wr_get, ⟨h2, h3⟩, (f.trans kp_wr).mono (by omega) (by omega), g⟩
theorem wrM_fr {k p : Int} : fr [2, 3] [] s (wrM s k p) := (fr.refl.si rfl).si rfl
theorem isW_ne {w v : List Nat} (h : isW τ w) (hd : ¬ wcd w = wcd v) : ¬ isW τ v := fun z => hd (h.2.symm.trans z.2)
/-- a word, both sides: must(isWord(w)), want(w) -/
theorem LZ.word (hT : txO T n) (hG : okW G) (h : LZ G T n N0 R A F r O y s τ ν bd ld) {a : Nat} {w : List Nat} (hS : wdG G a w) (hw : ltW w) : (isW τ w ∧ ∃ y1 s1, (fy_Reader_isWord G y R a = some 1 ∧ fy_Reader_must G y R 1 = some (.inr (), y1)) ∧ fm_want s (wcd w) = some s1 ∧ LZ G T n N0 R A F r O y1 s1 (tk T n (tE τ)) ν bd ld ∧ kpY N0 F 0 0 y y1 ∧ fr [4, 6, 7, 8, 100] [] s s1 ∧ tP τ < tE τ) ∨ (¬ isW τ w ∧ (fy_Reader_isWord G y R a = some 0 ∧ fy_Reader_must G y R 0 = some (.inl F, wrY y F (fkT τ) (tP τ))) ∧ fm_want s (wcd w) = some (wrM s (fkT τ) (tP τ))) := by
  have e := c_isW hT hG h.2.2.1 h.1.1 h.1.2.1 h.1.2.2 hS hw
  obtain ⟨j1, j2⟩ := m_want (w := w) hT h.2.2.2.2.1.1 h.2.2.2.2.1.2.1 h.1.2.2 h.2.2.2.2.1.2.2.1
  by_cases z : isW τ w
  · left
    rw [if_pos z] at e
    have z1 := z.1
    obtain ⟨y1, k1, k2, k3⟩ := c_must1 (G := G) hT h.1.1 h.1.2.1 h.1.2.2 (by omega)
    obtain ⟨s1, j3, j4, j5⟩ := j1 z
    have tb := h.1.2.2.1
    exact ⟨z, y1, s1, ⟨e, k1⟩, j3, h.rd k2 k3 (tk_ok (by omega) (by omega)).1 j4 j5, k2.kp h.2.1.2.2.2.2.2.2.2.2.2.1, j5, h.1.2.2.2.2.2.1 (by omega) (by omega)⟩
  · right
    rw [if_neg z] at e
    exact ⟨z, ⟨e, c_must0 h.1.1 h.1.2.1⟩, j2 z⟩
/-- a word and a number: after(w, a, b), told(w, a, b) -/
theorem LZ.told (hT : txO T n) (hG : okW G) (h : LZ G T n N0 R A F r O y s τ ν bd ld) {a : Nat} {w : List Nat} (hS : wdG G a w) (hw : ltW w) {lo hi : Int} (h1 : -10000 ≤ lo ∧ lo ≤ 10000) (h2 : -10000 ≤ hi ∧ hi ≤ 10000) : (∃ y1 s1 τ1 v, fy_Reader_after G y R a (iI lo) (iI hi) = some (.inr (iI v), y1) ∧ fm_told s (wcd w) (iI lo) (iI hi) = some (iI v, s1) ∧ LZ G T n N0 R A F r O y1 s1 τ1 ν bd ld ∧ kpY N0 F 0 0 y y1 ∧ fr [4, 6, 7, 8, 100] [] s s1 ∧ (lo ≤ v ∧ v ≤ hi) ∧ tP τ + 2 ≤ tP τ1) ∨ ∃ y1 s1 k p v, fy_Reader_after G y R a (iI lo) (iI hi) = some (.inl F, y1) ∧ fm_told s (wcd w) (iI lo) (iI hi) = some (v, s1) ∧ (1 ≤ k ∧ k ≤ 4 ∧ tP τ ≤ p ∧ p ≤ 1600) ∧ (yf y1 F 0 = iI k ∧ yf y1 F 1 = iI p) ∧ (s1.1 2 = iI k ∧ s1.1 3 = iI p) ∧ kpY N0 F 0 0 y y1 ∧ fr [2, 3, 4, 6, 7, 8, 100] [] s s1 := by
  have t0 := h.1.1.1.1
  have tb := h.1.2.2.1
  have hn := hT.1
  rcases h.word hT hG hS hw with ⟨z, y1, s1, ⟨e1, e2⟩, e3, h1', k1, f1, tp⟩ | ⟨z, ⟨e1, e2⟩, e3⟩
  · obtain ⟨tk1, tp1⟩ := tk_ok (T := T) (n := n) (p := tE τ) (by omega) (by omega)
    rcases h1'.num hT h1 h2 with ⟨q0, y2, s2, q1, q2, q3, q4, q5, q6, q7⟩ | ⟨k, v, q1, q2, q3⟩
    · left
      obtain ⟨tk2, tp2⟩ := tk_ok (T := T) (n := n) (p := tE (tk T n (tE τ))) (by have := tk1.1; omega) (by have := tk1.1; omega)
      refine ⟨y2, s2, _, tN (tk T n (tE τ)), ?_, ?_, q3, (k1.trans q4).mono (by omega) (by omega), f1.trans q5, q6, by omega⟩
      · unfold fy_Reader_after
        rw [ck_ok t0, obs, e1, obs, obs, e2, obs]
        simp only [Sum.elim_inr]
        rw [ck_ok h1'.1.1.1.1, obs, q1, obs]
        rfl
      · unfold fm_told
        rw [e3, obs, q2, obs]
    · right
      refine ⟨wrY y1 F k (tP (tk T n (tE τ))), wrM s1 k (tP (tk T n (tE τ))), k, tP (tk T n (tE τ)), v, ?_, ?_, ⟨q1.1, q1.2, by omega, by have := tk1.1; omega⟩, wr_get, ⟨rfl, rfl⟩, (k1.trans kp_wr).mono (by omega) (by omega), (f1.mono rfl rfl).trans (wrM_fr.mono rfl rfl)⟩
      · unfold fy_Reader_after
        rw [ck_ok t0, obs, e1, obs, obs, e2, obs]
        simp only [Sum.elim_inr]
        rw [ck_ok h1'.1.1.1.1, obs, q2, obs]
        rfl
      · unfold fm_told
        rw [e3, obs, q3, obs]
  · right
    have fb := fkT_b τ
    refine ⟨wrY y F (fkT τ) (tP τ), wrM s (fkT τ) (tP τ), fkT τ, tP τ, iI 0, ?_, ?_, ⟨by omega, by omega, by omega, by omega⟩, wr_get, ⟨rfl, rfl⟩, kp_wr, wrM_fr.mono rfl rfl⟩
    · unfold fy_Reader_after
      rw [ck_ok t0, obs, e1, obs, obs, e2, obs]
      rfl
    · unfold fm_told
      rw [e3, obs, m_numF (k := fkT τ) rfl (by omega), obs]
/-- a number of the river is set -/
theorem CLr.set (h : CLr G O r y ν bd ld) (hO : labO O N0 R A F r) {k : Nat} (h1 : 6 ≤ k) (h2 : k ≤ 15) (v : Int) : CLr G O r (sF y r k (iI v)) (upN (vN ν) k v, vV ν, vW ν, vH ν) bd ld := by
  have f : yF O [200 + k] 0 0 y (sF y r k (iI v)) := yF.refl.sf (by unfold lbF; rw [hO.2.1, if_pos rfl]; simp)
  refine h.fr hO f ?_ (fun j j1 j2 => ?_) ?_ ?_
  · have : k = 6 ∨ k = 7 ∨ k = 8 ∨ k = 9 ∨ k = 10 ∨ k = 11 ∨ k = 12 ∨ k = 13 ∨ k = 14 ∨ k = 15 := by omega
    rcases this with z | z | z | z | z | z | z | z | z | z <;> subst z <;> rfl
  · rw [sF_get]
    unfold upN
    by_cases z : j = k
    · rw [if_pos ⟨rfl, z⟩, if_pos z]
    · rw [if_neg (by omega), if_neg z]
      exact h.2.2.2.1 j j1 j2
  · unfold upN; rw [if_neg (by omega)]
  · unfold upN; rw [if_neg (by omega)]
theorem LZ.set (h : LZ G T n N0 R A F r O y s τ ν bd ld) {k : Nat} (h1 : 6 ≤ k) (h2 : k ≤ 15) (v : Int) (g : fr K J s s1) (hK : K.all (fun k => !([2, 3, 4, 5, 6, 7, 8, 100].contains k)) = true) (hJ : J.contains 1 = false) (hm : ML s1 (upN (vN ν) k v, vV ν, vW ν, vH ν)) (hw : wfL (upN (vN ν) k v, vV ν, vW ν, vH ν)) : wI 1 k y r (iI v) = some (sF y r k (iI v)) ∧ LZ G T n N0 R A F r O (sF y r k (iI v)) s1 τ (upN (vN ν) k v, vV ν, vW ν, vH ν) bd ld ∧ kpY N0 F 0 0 y (sF y r k (iI v)) := by
  obtain ⟨⟨a1, a2, a3⟩, b, cc, dd, ⟨e1, e2, e3, e4⟩, ff, gg⟩ := h
  have hr : ¬ R = r := b.2.2.2.2.2.2.2.2.2.2.2
  have hN := b.2.2.2.2.2.2.2.2.2.2.1
  refine ⟨wI_ok dd.1.1, ⟨⟨⟨a1.1, ⟨a1.2.1.1, ?_, a1.2.1.2.2.1, a1.2.1.2.2.2⟩, a1.2.2⟩, ?_, a3⟩, b, cc, dd.set b h1 h2 v, ⟨e1.fr g (off_all hK rfl) hJ, e2.fr g (off_all hK rfl) (off_all hK rfl) (off_all hK rfl) (off_all hK rfl) (off_all hK rfl), by rw [g.s 2 (off_all hK rfl)]; exact e3, by rw [g.s 3 (off_all hK rfl)]; exact e4⟩, hm, hw⟩, ⟨⟨Nat.le_refl _, Nat.le_refl _, Nat.le_refl _⟩, fun q hq => ⟨rfl, rfl, rfl, rfl, rfl, fun _ => ?_⟩⟩⟩
  · rw [sF_get, if_neg (by omega)]; exact a1.2.1.2.1
  · unfold CT
    rw [sF_get, if_neg (by omega), sF_get, if_neg (by omega), sF_get, if_neg (by omega), sF_get, if_neg (by omega)]
    exact a2
  · funext j
    rw [sF_get, if_neg (by omega)]
end N1

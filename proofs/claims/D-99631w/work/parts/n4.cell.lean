/-! LAYER 3, the lines: current, iron (the cells printed by tools/gen_n4.py) -/
set_option maxRecDepth 100000
def pCA : List Nat := [5, 34, 134, 35, 135, 36, 136, 37, 137, 1, 101]
section N4
variable {G : ai_G} {T : Int → Int} {n : Int} {N0 R A F r : Nat} {O : Nat → Nat} {y y1 : yS} {s : mS} {τ : Tk} {ν : Lv} {bd le : Nat → Nat} {c d : Nat} {L : List Nat}
/-- rows of the river are set -/
theorem CLr.fra {N' : Nat → Int} {V' : Nat → Int → Int} (h : CLr G O r y ν bd le) (hO : labO O N0 R A F r) (f : yF O L c d y y1) (hL : L.all (fun k => !(pCA.contains k)) = true) (hi : ∀ k, 6 ≤ k → k ≤ 15 → yf y1 r k = iI (N' k)) (h0 : N' 0 = vN ν 0) (h1 : N' 1 = vN ν 1) (ha : ∀ z, 0 ≤ z → z < 56 → ya y1 (r + 3) z.toNat = iI (V' 0 z) ∧ ya y1 (r + 4) z.toNat = iI (V' 1 z) ∧ ya y1 (r + 5) z.toNat = iI (V' 2 z)) (h3 : ∀ k, 3 ≤ k → k ≤ 6 → V' k = vV ν k) : CLr G O r y1 (N', V', vW ν, vH ν) bd le := by
  obtain ⟨⟨a1, a2⟩, b, ⟨c1, c2, c3, c4⟩, dd, e, l1, l2, bs, ls, ht⟩ := h
  obtain ⟨-, o0, o1, o2, -⟩ := hO
  have hn := f.nx
  have er : yr y1 r = yr y r := f.ref (by omega) (by rw [o0]; exact off_all hL rfl)
  have l1' := l1.fr f (off_all hL rfl) (off_all hL rfl) rfl
  have l2' := l2.fr f (off_all hL rfl) (off_all hL rfl) rfl
  have v3 : V' 3 = vV ν 3 := h3 3 (by omega) (by omega)
  have v4 : V' 4 = vV ν 4 := h3 4 (by omega) (by omega)
  have v5 : V' 5 = vV ν 5 := h3 5 (by omega) (by omega)
  have v6 : V' 6 = vV ν 6 := h3 6 (by omega) (by omega)
  refine ⟨⟨by rw [f.tag (by omega)]; exact a1, by omega⟩, by rw [er]; exact b, ⟨by rw [f.tag (by omega)]; exact c1, by rw [f.tag (by omega)]; exact c2, by rw [f.tag (by omega)]; exact c3, by rw [f.tag (by omega)]; exact c4⟩, hi, ha, ?_, ?_, fun b b1 b2 => ?_, fun l k1 k2 => ?_, ?_⟩
  · show lsY G O y1 (r + 1) 34 (N' 0) bd
    rw [h0]; exact l1'
  · show lsY G O y1 (r + 2) 35 (N' 1) le
    rw [h1]; exact l2'
  · replace b2 : b < N' 0 := b2
    obtain ⟨g1, g2, g3, g4, g5, g6, g7⟩ := bs b b1 (by omega)
    have ef : ∀ k, yf y1 (bd b.toNat) k = yf y (bd b.toNat) k := fun k => f.int g3 (by rw [lbF_ne g2 (by decide)]; exact off_all hL rfl)
    refine ⟨by rw [f.tag g3]; exact g1, g2, by omega, ?_, ?_, ?_, by rw [f.lng g3 (by rw [g2]; exact off_all hL rfl)]; exact g7⟩
    · show _ = iI (V' 3 b)
      rw [ef, v3]; exact g4
    · show _ = iI (V' 4 b)
      rw [ef, v4]; exact g5
    · show _ = iI (V' 5 b)
      rw [ef, v5]; exact g6
  · replace k2 : l < N' 1 := k2
    obtain ⟨g1, g2, g3, g4, g5⟩ := ls l k1 (by omega)
    have ef : ∀ k, yf y1 (le l.toNat) k = yf y (le l.toNat) k := fun k => f.int g3 (by rw [lbF_ne g2 (by decide)]; exact off_all hL rfl)
    refine ⟨by rw [f.tag g3]; exact g1, g2, by omega, ?_, by rw [f.lng g3 (by rw [g2]; exact off_all hL rfl)]; exact g5⟩
    show _ = iI (V' 6 l)
    rw [ef, v6]; exact g4
  · rw [er]
    rcases ht with ht | ⟨q, q1, q2⟩
    · exact Or.inl ht
    · exact Or.inr ⟨q, q1, trY.fr f (off_all hL rfl) (off_all hL rfl) _ _ _ q2⟩
theorem m_numS {k : Int} (h2 : s.1 2 = iI k) (hk : 1 ≤ k ∧ k ≤ 4) (a b : Int32) : fm_toldNumber s a b = some (iI 0, s) := m_numF h2 hk a b
/-- a cell of which none is told, both sides -/
theorem LZ.cell1 (hT : txO T n) (h : LZ G T n N0 R A F r O y s τ ν bd le) {lo hi : Int} (h1 : 0 ≤ lo ∧ lo ≤ 6) (h2 : 0 ≤ hi ∧ hi ≤ 6) : (∃ y1 s1 τ1 z, fy_Reader_cell G y R (iI lo) (iI hi) (r + 4) = some (.inr (iI z), yw y1 (r + 4) z.toNat (iI 1)) ∧ fm_readCell_10 s (iI lo) (iI hi) = some (iI z, s1) ∧ LZ G T n N0 R A F r O y1 s1 τ1 ν bd le ∧ (0 ≤ z ∧ z < 56 ∧ z < 8 * (hi + 1) ∧ vV ν 1 z = 0) ∧ kpY N0 F 0 0 y y1 ∧ fr [4, 6, 7, 8, 100] [] s s1 ∧ tP τ + 2 ≤ tP τ1) ∨ ∃ y1 s1 k p v, fy_Reader_cell G y R (iI lo) (iI hi) (r + 4) = some (.inl F, y1) ∧ fm_readCell_10 s (iI lo) (iI hi) = some (v, s1) ∧ (1 ≤ k ∧ k ≤ 4 ∧ tP τ ≤ p ∧ p ≤ 1600) ∧ (yf y1 F 0 = iI k ∧ yf y1 F 1 = iI p) ∧ (s1.1 2 = iI k ∧ s1.1 3 = iI p) ∧ kpY N0 F 0 0 y y1 ∧ fr [2, 3, 4, 6, 7, 8, 100] [] s s1 := by
  have t0 := h.1.1.1.1
  have tb := h.1.2.2.1
  have hn := hT.1
  have hC := h.2.2.2.1
  have w8 := h.2.2.2.2.2.2.1.1
  have m38 := h.2.2.2.2.2.1.1.1
  have eR : gR 8 3 y R = some r := gR_ok t0 h.1.1.2.1.2.2.2
  have e8 : gI 1 8 y r = some (iI (vN ν 8)) := by rw [gI_ok hC.1.1, hC.2.2.2.1 8 (by omega) (by omega)]
  have eJ : ∀ (u : mS) (v k : Int), u.1 2 = iI k → (1 ≤ k ∧ k ≤ 4) → fm_readCell_10_j64 u (iI lo) (iI hi) (iI v) = some (iI (8 * 0 + v), u) := by
    intro u v k hu hk
    unfold fm_readCell_10_j64
    rw [m_numF hu hk, obs]
    simp only [iI_lit, iI_add, iI_sub, iI_mul, iI_neg, obs, if_true, if_false, Int.reduceEq, Int.reduceLE, Int.reduceLT, Int.reduceAdd, Int.reduceSub, Int.reduceMul, Int.reduceNeg, Nat.reduceEqDiff]
  rcases h.num hT (a := 0) (b := vN ν 8 - 1) (by omega) (by omega) with ⟨q0, y1, s1, q1, q2, h1', q4, q5, q6, q7⟩ | ⟨k, v, q1, q2, q3⟩
  · obtain ⟨tk1, tp1⟩ := tk_ok (T := T) (n := n) (p := tE τ) (by omega) (by omega)
    have tb1 := tk1.1
    have t1 := h1'.1.1.1.1
    have sb1 := so_b tk1
    have nb1 := tk1.2.1
    generalize hc : tN τ = col at *
    have eR1 : gR 8 3 y1 R = some r := gR_ok t1 h1'.1.1.2.1.2.2.2
    have e4 : gI 8 4 y1 R = some (iI (tP (tk T n (tE τ)))) := by rw [gI_ok t1, h1'.1.2.1.1]
    have m2 := h1'.2.2.2.2.1.2.2.1
    have m6 := h1'.2.2.2.2.1.2.1.1
    have eC : fy_Reader_cell G y R (iI lo) (iI hi) (r + 4) = (fy_Reader_number G y1 R (iI lo) (iI hi)).bind fun p31 => Sum.elim (fun q31 => some ((.inl q31 : Nat ⊕ Int32), p31.2)) (fun v31 => (ck 1 p31.2 r).bind fun _ => (fy_River_cell G p31.2 r (iI col) v31).bind fun p34 => (aB G p31.2 (r + 4) p34).bind fun x42 => if x42 = 0 then ((wB p31.2 (r + 4) p34 1).bind fun s61 => some ((.inr p34 : Nat ⊕ Int32), s61)) else ((gR 8 2 p31.2 R).bind fun x47 => (ck 3 p31.2 x47).bind fun _ => (fy_Wrong_by G p31.2 x47 3 (iI (tP (tk T n (tE τ))))).bind fun p53 => (ck 3 p53.2 p53.1).bind fun _ => some ((.inl p53.1 : Nat ⊕ Int32), p53.2))) p31.1 := by
      unfold fy_Reader_cell
      rw [eR, obs, e8, obs, ck_ok t0, obs, i0, i1, iI_sub, q1, obs]
      simp only [Sum.elim_inr]
      rw [e4, obs, eR1, obs, ck_ok t1, obs]
    have eM0 : fm_toldNumber s (iI 0) (iI (vN ν 8) - iI 1) = some (iI col, s1) := by rw [iI_sub]; exact q2
    rcases h1'.num hT (a := lo) (b := hi) (by omega) (by omega) with ⟨p0, y2, s2, p1, p2, h2', p4, p5, p6, p7⟩ | ⟨k, v, p1, p2, p3⟩
    · obtain ⟨tk2, tp2⟩ := tk_ok (T := T) (n := n) (p := tE (tk T n (tE τ))) (by omega) (by omega)
      have hso := (nmK_0.mp p0).1
      have m8 := h1'.2.2.2.2.1.2.1.2.2.2.1 hso
      generalize hr : tN (tk T n (tE τ)) = row at *
      have hC2 := h2'.2.2.2.1
      have ca := (hC2.2.2.2.2.1 (8 * row + col) (by omega) (by omega)).2.1
      have wz := h2'.2.2.2.2.2.2.2.1 (8 * row + col) (by omega) (by omega)
      have ma := (h1'.2.2.2.2.2.1.2.1 (8 * row + col) (by omega) (by omega)).1
      have ea : aB G y2 (r + 4) (iI (8 * row + col)) = some (iI (vV ν 1 (8 * row + col))) := by rw [aB_n 1 56 hC2.2.2.1.2.1 (Or.inl rfl) (by omega) (by omega) (by omega), ca]
      have el : ld 10 56 s1 (iI (8 * row + col)) = some (iI (if vV ν 1 (8 * row + col) = 1 then vV ν 0 (8 * row + col) else -1)) := by rw [ld_i (by omega) (by omega) (by omega), ma]
      have eM : fm_readCell_10 s (iI lo) (iI hi) = if vV ν 1 (8 * row + col) = 0 then fm_readCell_10_j64 s1 (iI lo) (iI hi) (iI col) else (fm_wrong s1 (iI 3)).bind fun p61 => fm_readCell_10_j64 p61 (iI lo) (iI hi) (iI col) := by
        unfold fm_readCell_10
        rw [m38, i0, i1, eM0, obs]
        simp only
        rw [m2, if_pos rfl, m6, hso, if_pos (show iI 2 = (2 : Int32) from rfl), m8]
        rcases wz.2.1 with z | z
        · rw [z, if_neg (by decide)] at el
          simp (disch := omega) only [iI_lit, iI_add, iI_sub, iI_mul, iI_neg, obs, if_true, if_false, Int.reduceEq, Int.reduceLE, Int.reduceLT, Int.reduceAdd, Int.reduceSub, Int.reduceMul, Int.reduceNeg, Nat.reduceEqDiff, iI_le, iI_lt, iI_eq, el]
          rw [if_neg (by omega), if_neg (by omega), if_pos z]
        · rw [z, if_pos rfl] at el
          have hv : 0 ≤ (vV ν 0 (8 * row + col)) ∧ (vV ν 0 (8 * row + col)) ≤ 7 := by have := wz.1; omega
          simp (disch := omega) only [iI_lit, iI_add, iI_sub, iI_mul, iI_neg, obs, if_true, if_false, Int.reduceEq, Int.reduceLE, Int.reduceLT, Int.reduceAdd, Int.reduceSub, Int.reduceMul, Int.reduceNeg, Nat.reduceEqDiff, iI_le, iI_lt, iI_eq, el]
          repeat rw [if_neg (by omega)]
      rw [eC, p1, obs, eM]
      simp only [Sum.elim_inr]
      rw [ck_ok hC2.1.1, obs, show fy_River_cell G y2 r (iI col) (iI row) = some (iI (8 * row + col)) from c_cell, obs, ea, obs]
      by_cases z : vV ν 1 (8 * row + col) = 0
      · left
        refine ⟨y2, s2, _, 8 * row + col, ?_, ?_, h2', ⟨by omega, by omega, by omega, z⟩, (q4.trans p4).mono (by omega) (by omega), q5.trans p5, by omega⟩
        · rw [z, if_pos (show iI 0 = (0 : Int32) from rfl), i1, wB_b hC2.2.2.1.2.1 (by omega) (by omega) (by omega) (Or.inr rfl), obs]
        · rw [if_pos z]
          unfold fm_readCell_10_j64
          rw [p2, obs]
          simp only [iI_lit, iI_add, iI_sub, iI_mul, iI_neg, obs, if_true, if_false, Int.reduceEq, Int.reduceLE, Int.reduceLT, Int.reduceAdd, Int.reduceSub, Int.reduceMul, Int.reduceNeg, Nat.reduceEqDiff]
      · right
        have kk := m_wrong (k := 3) h1'.2.2.2.2.1.2.1 tk1 m2
        rw [if_neg (by omega)] at kk
        have kb := c_by (G := G) h2'.1.1 3 (tP (tk T n (tE τ)))
        have kw := ck_wr h2'.1.1 3 (tP (tk T n (tE τ)))
        refine ⟨wrY y2 F 3 (tP (tk T n (tE τ))), wrM s1 3 (tP (tk T n (tE τ))), 3, tP (tk T n (tE τ)), iI (8 * 0 + col), ?_, ?_, ⟨by omega, by omega, by omega, by omega⟩, wr_get, ⟨rfl, rfl⟩, ((q4.trans p4).trans kp_wr).mono (by omega) (by omega), (q5.mono rfl rfl).trans (wrM_fr.mono rfl rfl)⟩
        · rw [if_neg (by rw [i0, iI_eq (by have := wz.2.1; omega) (by have := wz.2.1; omega) (by omega) (by omega)]; exact z), gR_ok h2'.1.1.1.1 h2'.1.1.2.1.2.2.1, obs, ck_ok h2'.1.1.2.2.2, obs, show (3 : Int32) = iI 3 from rfl, kb, obs, kw, obs]
        · rw [if_neg z, kk, obs]
          exact eJ _ col 3 rfl (by omega)
    · right
      have hM : fm_readCell_10 s (iI lo) (iI hi) = fm_readCell_10_j64 s1 (iI lo) (iI hi) (iI col) := by
        unfold fm_readCell_10
        rw [m38, i0, i1, eM0, obs]
        simp only
        rw [m2, if_pos rfl, m6]
        by_cases z : tS (tk T n (tE τ)) = 2
        · have m8 := h1'.2.2.2.2.1.2.1.2.2.2.1 z
          rw [z, if_pos (show iI 2 = (2 : Int32) from rfl), m8]
          simp (disch := omega) only [iI_le, iI_lt, iI_eq]
          by_cases z1 : tN (tk T n (tE τ)) < lo
          · rw [if_pos z1]
          · rw [if_neg z1]
            by_cases z2 : hi < tN (tk T n (tE τ))
            · rw [if_pos z2]
            · exfalso
              obtain ⟨w1, -⟩ := c_number (G := G) hT h1'.1.1 h1'.1.2.1 tk1 (a := lo) (b := hi) (by omega) (by omega)
              obtain ⟨w2, w3, -⟩ := w1 (nmK_0.mpr ⟨z, by omega, by omega⟩)
              rw [w3] at p2
              cases p2
        · rw [if_neg (by rw [show (2 : Int32) = iI 2 from rfl, iI_eq (by omega) (by omega) (by omega) (by omega)]; exact z)]
      refine ⟨wrY y1 F k (tP (tk T n (tE τ))), wrM s1 k (tP (tk T n (tE τ))), k, tP (tk T n (tE τ)), 8 * v + iI col, ?_, ?_, ⟨p1.1, p1.2, by omega, by omega⟩, wr_get, ⟨rfl, rfl⟩, (q4.trans kp_wr).mono (by omega) (by omega), (q5.mono rfl rfl).trans (wrM_fr.mono rfl rfl)⟩
      · rw [eC, p2, obs]
        rfl
      · rw [hM]
        unfold fm_readCell_10_j64
        rw [p3, obs]
  · right
    refine ⟨wrY y F k (tP τ), wrM s k (tP τ), k, tP τ, 8 * iI 0 + v, ?_, ?_, ⟨q1.1, q1.2, by omega, by omega⟩, wr_get, ⟨rfl, rfl⟩, kp_wr, wrM_fr.mono rfl rfl⟩
    · unfold fy_Reader_cell
      rw [eR, obs, e8, obs, ck_ok t0, obs, i0, i1, iI_sub, q2, obs]
      rfl
    · unfold fm_readCell_10
      rw [m38, i0, i1, iI_sub, q3, obs]
      simp only
      rw [show (wrM s k (tP τ)).1 2 = iI k from rfl, if_neg (by rw [iI_eq (by omega) (by omega) (by omega) (by omega)]; omega)]
      unfold fm_readCell_10_j64
      rw [m_numF (k := k) rfl q1, obs]
/-- a cell of which none is told, both sides -/
theorem LZ.cell2 (hT : txO T n) (h : LZ G T n N0 R A F r O y s τ ν bd le) {lo hi : Int} (h1 : 0 ≤ lo ∧ lo ≤ 6) (h2 : 0 ≤ hi ∧ hi ≤ 6) : (∃ y1 s1 τ1 z, fy_Reader_cell G y R (iI lo) (iI hi) (r + 5) = some (.inr (iI z), yw y1 (r + 5) z.toNat (iI 1)) ∧ fm_readCell_11 s (iI lo) (iI hi) = some (iI z, s1) ∧ LZ G T n N0 R A F r O y1 s1 τ1 ν bd le ∧ (0 ≤ z ∧ z < 56 ∧ z < 8 * (hi + 1) ∧ vV ν 2 z = 0) ∧ kpY N0 F 0 0 y y1 ∧ fr [4, 6, 7, 8, 100] [] s s1 ∧ tP τ + 2 ≤ tP τ1) ∨ ∃ y1 s1 k p v, fy_Reader_cell G y R (iI lo) (iI hi) (r + 5) = some (.inl F, y1) ∧ fm_readCell_11 s (iI lo) (iI hi) = some (v, s1) ∧ (1 ≤ k ∧ k ≤ 4 ∧ tP τ ≤ p ∧ p ≤ 1600) ∧ (yf y1 F 0 = iI k ∧ yf y1 F 1 = iI p) ∧ (s1.1 2 = iI k ∧ s1.1 3 = iI p) ∧ kpY N0 F 0 0 y y1 ∧ fr [2, 3, 4, 6, 7, 8, 100] [] s s1 := by
  have t0 := h.1.1.1.1
  have tb := h.1.2.2.1
  have hn := hT.1
  have hC := h.2.2.2.1
  have w8 := h.2.2.2.2.2.2.1.1
  have m38 := h.2.2.2.2.2.1.1.1
  have eR : gR 8 3 y R = some r := gR_ok t0 h.1.1.2.1.2.2.2
  have e8 : gI 1 8 y r = some (iI (vN ν 8)) := by rw [gI_ok hC.1.1, hC.2.2.2.1 8 (by omega) (by omega)]
  have eJ : ∀ (u : mS) (v k : Int), u.1 2 = iI k → (1 ≤ k ∧ k ≤ 4) → fm_readCell_11_j64 u (iI lo) (iI hi) (iI v) = some (iI (8 * 0 + v), u) := by
    intro u v k hu hk
    unfold fm_readCell_11_j64
    rw [m_numF hu hk, obs]
    simp only [iI_lit, iI_add, iI_sub, iI_mul, iI_neg, obs, if_true, if_false, Int.reduceEq, Int.reduceLE, Int.reduceLT, Int.reduceAdd, Int.reduceSub, Int.reduceMul, Int.reduceNeg, Nat.reduceEqDiff]
  rcases h.num hT (a := 0) (b := vN ν 8 - 1) (by omega) (by omega) with ⟨q0, y1, s1, q1, q2, h1', q4, q5, q6, q7⟩ | ⟨k, v, q1, q2, q3⟩
  · obtain ⟨tk1, tp1⟩ := tk_ok (T := T) (n := n) (p := tE τ) (by omega) (by omega)
    have tb1 := tk1.1
    have t1 := h1'.1.1.1.1
    have sb1 := so_b tk1
    have nb1 := tk1.2.1
    generalize hc : tN τ = col at *
    have eR1 : gR 8 3 y1 R = some r := gR_ok t1 h1'.1.1.2.1.2.2.2
    have e4 : gI 8 4 y1 R = some (iI (tP (tk T n (tE τ)))) := by rw [gI_ok t1, h1'.1.2.1.1]
    have m2 := h1'.2.2.2.2.1.2.2.1
    have m6 := h1'.2.2.2.2.1.2.1.1
    have eC : fy_Reader_cell G y R (iI lo) (iI hi) (r + 5) = (fy_Reader_number G y1 R (iI lo) (iI hi)).bind fun p31 => Sum.elim (fun q31 => some ((.inl q31 : Nat ⊕ Int32), p31.2)) (fun v31 => (ck 1 p31.2 r).bind fun _ => (fy_River_cell G p31.2 r (iI col) v31).bind fun p34 => (aB G p31.2 (r + 5) p34).bind fun x42 => if x42 = 0 then ((wB p31.2 (r + 5) p34 1).bind fun s61 => some ((.inr p34 : Nat ⊕ Int32), s61)) else ((gR 8 2 p31.2 R).bind fun x47 => (ck 3 p31.2 x47).bind fun _ => (fy_Wrong_by G p31.2 x47 3 (iI (tP (tk T n (tE τ))))).bind fun p53 => (ck 3 p53.2 p53.1).bind fun _ => some ((.inl p53.1 : Nat ⊕ Int32), p53.2))) p31.1 := by
      unfold fy_Reader_cell
      rw [eR, obs, e8, obs, ck_ok t0, obs, i0, i1, iI_sub, q1, obs]
      simp only [Sum.elim_inr]
      rw [e4, obs, eR1, obs, ck_ok t1, obs]
    have eM0 : fm_toldNumber s (iI 0) (iI (vN ν 8) - iI 1) = some (iI col, s1) := by rw [iI_sub]; exact q2
    rcases h1'.num hT (a := lo) (b := hi) (by omega) (by omega) with ⟨p0, y2, s2, p1, p2, h2', p4, p5, p6, p7⟩ | ⟨k, v, p1, p2, p3⟩
    · obtain ⟨tk2, tp2⟩ := tk_ok (T := T) (n := n) (p := tE (tk T n (tE τ))) (by omega) (by omega)
      have hso := (nmK_0.mp p0).1
      have m8 := h1'.2.2.2.2.1.2.1.2.2.2.1 hso
      generalize hr : tN (tk T n (tE τ)) = row at *
      have hC2 := h2'.2.2.2.1
      have ca := (hC2.2.2.2.2.1 (8 * row + col) (by omega) (by omega)).2.2
      have wz := h2'.2.2.2.2.2.2.2.1 (8 * row + col) (by omega) (by omega)
      have ma := (h1'.2.2.2.2.2.1.2.1 (8 * row + col) (by omega) (by omega)).2
      have ea : aB G y2 (r + 5) (iI (8 * row + col)) = some (iI (vV ν 2 (8 * row + col))) := by rw [aB_n 1 56 hC2.2.2.1.2.2.1 (Or.inl rfl) (by omega) (by omega) (by omega), ca]
      have el : ld 11 56 s1 (iI (8 * row + col)) = some (iI (if vV ν 2 (8 * row + col) = 1 then 1 else -1)) := by rw [ld_i (by omega) (by omega) (by omega), ma]
      have eM : fm_readCell_11 s (iI lo) (iI hi) = if vV ν 2 (8 * row + col) = 0 then fm_readCell_11_j64 s1 (iI lo) (iI hi) (iI col) else (fm_wrong s1 (iI 3)).bind fun p61 => fm_readCell_11_j64 p61 (iI lo) (iI hi) (iI col) := by
        unfold fm_readCell_11
        rw [m38, i0, i1, eM0, obs]
        simp only
        rw [m2, if_pos rfl, m6, hso, if_pos (show iI 2 = (2 : Int32) from rfl), m8]
        rcases wz.2.2.1 with z | z
        · rw [z, if_neg (by decide)] at el
          simp (disch := omega) only [iI_lit, iI_add, iI_sub, iI_mul, iI_neg, obs, if_true, if_false, Int.reduceEq, Int.reduceLE, Int.reduceLT, Int.reduceAdd, Int.reduceSub, Int.reduceMul, Int.reduceNeg, Nat.reduceEqDiff, iI_le, iI_lt, iI_eq, el]
          rw [if_neg (by omega), if_neg (by omega), if_pos z]
        · rw [z, if_pos rfl] at el
          have hv : 0 ≤ (1) ∧ (1) ≤ 7 := by have := wz.1; omega
          simp (disch := omega) only [iI_lit, iI_add, iI_sub, iI_mul, iI_neg, obs, if_true, if_false, Int.reduceEq, Int.reduceLE, Int.reduceLT, Int.reduceAdd, Int.reduceSub, Int.reduceMul, Int.reduceNeg, Nat.reduceEqDiff, iI_le, iI_lt, iI_eq, el]
          repeat rw [if_neg (by omega)]
      rw [eC, p1, obs, eM]
      simp only [Sum.elim_inr]
      rw [ck_ok hC2.1.1, obs, show fy_River_cell G y2 r (iI col) (iI row) = some (iI (8 * row + col)) from c_cell, obs, ea, obs]
      by_cases z : vV ν 2 (8 * row + col) = 0
      · left
        refine ⟨y2, s2, _, 8 * row + col, ?_, ?_, h2', ⟨by omega, by omega, by omega, z⟩, (q4.trans p4).mono (by omega) (by omega), q5.trans p5, by omega⟩
        · rw [z, if_pos (show iI 0 = (0 : Int32) from rfl), i1, wB_b hC2.2.2.1.2.2.1 (by omega) (by omega) (by omega) (Or.inr rfl), obs]
        · rw [if_pos z]
          unfold fm_readCell_11_j64
          rw [p2, obs]
          simp only [iI_lit, iI_add, iI_sub, iI_mul, iI_neg, obs, if_true, if_false, Int.reduceEq, Int.reduceLE, Int.reduceLT, Int.reduceAdd, Int.reduceSub, Int.reduceMul, Int.reduceNeg, Nat.reduceEqDiff]
      · right
        have kk := m_wrong (k := 3) h1'.2.2.2.2.1.2.1 tk1 m2
        rw [if_neg (by omega)] at kk
        have kb := c_by (G := G) h2'.1.1 3 (tP (tk T n (tE τ)))
        have kw := ck_wr h2'.1.1 3 (tP (tk T n (tE τ)))
        refine ⟨wrY y2 F 3 (tP (tk T n (tE τ))), wrM s1 3 (tP (tk T n (tE τ))), 3, tP (tk T n (tE τ)), iI (8 * 0 + col), ?_, ?_, ⟨by omega, by omega, by omega, by omega⟩, wr_get, ⟨rfl, rfl⟩, ((q4.trans p4).trans kp_wr).mono (by omega) (by omega), (q5.mono rfl rfl).trans (wrM_fr.mono rfl rfl)⟩
        · rw [if_neg (by rw [i0, iI_eq (by have := wz.2.2.1; omega) (by have := wz.2.2.1; omega) (by omega) (by omega)]; exact z), gR_ok h2'.1.1.1.1 h2'.1.1.2.1.2.2.1, obs, ck_ok h2'.1.1.2.2.2, obs, show (3 : Int32) = iI 3 from rfl, kb, obs, kw, obs]
        · rw [if_neg z, kk, obs]
          exact eJ _ col 3 rfl (by omega)
    · right
      have hM : fm_readCell_11 s (iI lo) (iI hi) = fm_readCell_11_j64 s1 (iI lo) (iI hi) (iI col) := by
        unfold fm_readCell_11
        rw [m38, i0, i1, eM0, obs]
        simp only
        rw [m2, if_pos rfl, m6]
        by_cases z : tS (tk T n (tE τ)) = 2
        · have m8 := h1'.2.2.2.2.1.2.1.2.2.2.1 z
          rw [z, if_pos (show iI 2 = (2 : Int32) from rfl), m8]
          simp (disch := omega) only [iI_le, iI_lt, iI_eq]
          by_cases z1 : tN (tk T n (tE τ)) < lo
          · rw [if_pos z1]
          · rw [if_neg z1]
            by_cases z2 : hi < tN (tk T n (tE τ))
            · rw [if_pos z2]
            · exfalso
              obtain ⟨w1, -⟩ := c_number (G := G) hT h1'.1.1 h1'.1.2.1 tk1 (a := lo) (b := hi) (by omega) (by omega)
              obtain ⟨w2, w3, -⟩ := w1 (nmK_0.mpr ⟨z, by omega, by omega⟩)
              rw [w3] at p2
              cases p2
        · rw [if_neg (by rw [show (2 : Int32) = iI 2 from rfl, iI_eq (by omega) (by omega) (by omega) (by omega)]; exact z)]
      refine ⟨wrY y1 F k (tP (tk T n (tE τ))), wrM s1 k (tP (tk T n (tE τ))), k, tP (tk T n (tE τ)), 8 * v + iI col, ?_, ?_, ⟨p1.1, p1.2, by omega, by omega⟩, wr_get, ⟨rfl, rfl⟩, (q4.trans kp_wr).mono (by omega) (by omega), (q5.mono rfl rfl).trans (wrM_fr.mono rfl rfl)⟩
      · rw [eC, p2, obs]
        rfl
      · rw [hM]
        unfold fm_readCell_11_j64
        rw [p3, obs]
  · right
    refine ⟨wrY y F k (tP τ), wrM s k (tP τ), k, tP τ, 8 * iI 0 + v, ?_, ?_, ⟨q1.1, q1.2, by omega, by omega⟩, wr_get, ⟨rfl, rfl⟩, kp_wr, wrM_fr.mono rfl rfl⟩
    · unfold fy_Reader_cell
      rw [eR, obs, e8, obs, ck_ok t0, obs, i0, i1, iI_sub, q2, obs]
      rfl
    · unfold fm_readCell_11
      rw [m38, i0, i1, iI_sub, q3, obs]
      simp only
      rw [show (wrM s k (tP τ)).1 2 = iI k from rfl, if_neg (by rw [iI_eq (by omega) (by omega) (by omega) (by omega)]; omega)]
      unfold fm_readCell_11_j64
      rw [m_numF (k := k) rfl q1, obs]
end N4

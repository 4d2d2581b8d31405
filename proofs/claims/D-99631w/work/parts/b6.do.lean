/-! LAYER 3: the model's strokes and stowings in earnest, boxes, sights, tape -/
set_option maxRecDepth 100000
def uNow (μ : Mu) (x' : Int → Int) : Mu := (uR μ, x', uS μ, uW μ, uB μ, uA μ)
theorem wfM.now {μ : Mu} {x' : Int → Int} (h : wfM μ) (hx : wfS (uR μ) x') : wfM (uNow μ x') := by
  obtain ⟨a1, a2, a3⟩ := h
  exact ⟨a1, hx, a3⟩
def seedX (x : Int → Int) : Int → Int := upI x 27 ((x 27 * 137 + 71) % 1000)
theorem wfS_seed {ρ : Rv} {x : Int → Int} (hw : wfR ρ) (h : wfS ρ x) : wfS ρ (seedX x) := by
  have hb := hw.2.2.1
  have hl := hw.2.2.2.1
  obtain ⟨h1, h2, h3⟩ := h
  refine ⟨fun b b1 b2 => ?_, fun l l1 l2 => ?_, ?_⟩
  · unfold seedX upI
    rw [if_neg (by omega), if_neg (by omega), if_neg (by omega), if_neg (by omega)]
    exact h1 b b1 b2
  · unfold seedX upI
    rw [if_neg (by omega)]
    exact h2 l l1 l2
  · unfold seedX upI
    rw [if_pos rfl]
    omega
def strongI (ρ : Rv) (x : Int → Int) : Int := if rF ρ ≤ seedX x 27 % 100 then 1 else 2
def onI (out : Int) : Int := if out = 0 then -1 else 1
/-- may this stroke be? -/
def canStr (μ : Mu) (b t out : Int) : Prop := (0 ≤ b ∧ b < rB (uR μ)) ∧ (-1 ≤ t ∧ t ≤ 1) ∧ ¬ uX μ (4 + b) = (if out = 0 then 0 else rR (uR μ))
def bankI (r : Int) : Int := if r = 0 then -1 else -2
def atBankI (μ : Mu) (b : Int) : Prop := uX μ (4 + b) = 0 ∨ uX μ (4 + b) = rR (uR μ)
def canStow (μ : Mu) (l b : Int) : Prop := (0 ≤ l ∧ l < rL (uR μ)) ∧ (0 ≤ b ∧ b < rB (uR μ)) ∧ atBankI μ b ∧ uX μ (20 + l) = bankI (uX μ (4 + b)) ∧ burd (uR μ) (uX μ) b + rLW (uR μ) l ≤ rBW (uR μ) b
def canTake (μ : Mu) (l : Int) : Prop := (0 ≤ l ∧ l < rL (uR μ)) ∧ 0 ≤ uX μ (20 + l) ∧ atBankI μ (uX μ (20 + l))
def canCool (μ : Mu) (b m : Int) : Prop := (0 ≤ b ∧ b < rB (uR μ)) ∧ 1 ≤ m ∧ m ≤ 9
section B6
variable {μ : Mu} {s : mS}
theorem MR.now {s1 : mS} {x' : Int → Int} {J : List Nat} (h : MR μ s) (f : fr [] J s s1) (hJ : J.all (fun k => !([16, 17, 18, 19, 20, 21, 5, 6, 1, 26, 34, 35, 36, 37, 38, 39, 43, 24, 44].contains k)) = true) (e0 : ar s1 22 28 x') : MR (uNow μ x') s1 := by
  obtain ⟨h1, h2, ⟨a1, a2, a3, a4, a5, a6, a7, a8⟩, h4, h5, h6, h7, h8, h9⟩ := h
  refine ⟨h1.fr f rfl (all_sub hJ rfl), e0, ⟨?_, ?_, ?_, ?_, ?_, ?_, ?_, ?_⟩, f.ar h4 (off_all hJ rfl), f.ar h5 (off_all hJ rfl), fun i hi => ?_, f.ar h7 (off_all hJ rfl), ?_, ?_⟩
  · rw [f.s 1 rfl]; exact a1
  · rw [f.s 2 rfl]; exact a2
  · rw [f.s 3 rfl]; exact a3
  · rw [f.s 57 rfl]; exact a4
  · rw [f.s 58 rfl]; exact a5
  · rw [f.s 61 rfl]; exact a6
  · rw [f.s 75 rfl]; exact a7
  · rw [f.s 76 rfl]; exact a8
  · have hi2 := hi
    simp only [sgJ, List.mem_cons, List.not_mem_nil, or_false] at hi
    rcases hi with rfl | rfl | rfl | rfl | rfl | rfl <;> exact f.ar (h6 _ hi2) (off_all hJ rfl)
  · rw [f.a 24 (off_all hJ rfl)]; exact h8
  · rw [f.a 44 (off_all hJ rfl)]; exact h9
theorem str_can {b t out : Int} (hw : wfM μ) (hc : canStr μ b t out) : 0 ≤ seedX (uX μ) (4 + b) + onI out ∧ seedX (uX μ) (4 + b) + onI out ≤ rR (uR μ) := by
  obtain ⟨⟨h1, h2⟩, -, h3⟩ := hc
  have hx := hw.2.1.1 b h1 h2
  have hb := hw.1.2.2.1
  unfold seedX upI onI
  rw [if_neg (by omega)]
  split at h3 <;> (split <;> omega)
theorem seed_rm {z : Int} (h1 : 0 ≤ z) (h2 : z < 1000) : rm ((iI z * 137) + 71) 1000 = some (iI ((z * 137 + 71) % 1000)) := by
  rw [show (137 : Int32) = iI 137 from iI_lit 137, show (71 : Int32) = iI 71 from iI_lit 71, show (1000 : Int32) = iI 1000 from iI_lit 1000, iI_mul, iI_add, rm_i (by omega) (by omega) (by omega) (by omega)]
theorem rm100 {z : Int} (h1 : 0 ≤ z) (h2 : z < 1000) : rm (iI z) 100 = some (iI (z % 100)) := by
  rw [show (100 : Int32) = iI 100 from iI_lit 100, rm_i (by omega) (by omega) (by omega) (by omega)]
theorem ld27 {u : mS} {v : Int32} (h : u.2.2.1 23 27 = v) : ld 23 28 u 27 = some v := by
  rw [show (27 : Int32) = iI 27 from iI_lit 27, ld_i (by omega) (by omega) (by omega)]
  exact congrArg some h
theorem sto27 {u : mS} {v : Int32} : sto 23 28 u 27 v = some (aw u 23 27 v) := by
  rw [show (27 : Int32) = iI 27 from iI_lit 27, sto_w (by omega) (by omega) (by omega)]
  rfl
theorem wfM.stroke {b t out : Int} (hw : wfM μ) (hc : canStr μ b t out) : wfM (uNow (uAct μ) (strS (uR μ) (seedX (uX μ)) b t (onI out) (strongI (uR μ) (uX μ)))) := by
  have hcan := str_can hw hc
  exact wfM.now (uAct_wf hw) (wfS_str hw.1 (wfS_seed hw.1 hw.2.1) hc.1.1 hc.1.2 hcan.1 hcan.2)
theorem m_stow (h : MR μ s) (hw : wfM μ) {l b : Int} (h1 : -2147483648 ≤ l) (h2 : l < 2147483648) (h3 : -2147483648 ≤ b) (h4 : b < 2147483648) : (¬ canStow μ l b → ∃ s', fm_stow s (iI l) (iI b) = some (iI (-1), s') ∧ MR μ s') ∧ (canStow μ l b → ∃ s', fm_stow s (iI l) (iI b) = some (iI (burd (uR μ) (upI (uX μ) (20 + l) b) b), s') ∧ MR (uNow (uAct μ) (upI (uX μ) (20 + l) b)) s') := by
  have hwR := hw.1
  have hb := hwR.2.2.1
  have hr := hwR.2.1
  have hl := hwR.2.2.2.1
  obtain ⟨s1, e1, f1, a1⟩ := m_fill h.2.1
  have m1 := h.frm f1 rfl rfl
  have hR1 := m1.1
  have ha1 := m1.2.1
  unfold fm_stow
  rw [e1]
  simp only [Option.bind_some]
  rw [m_isLoad hR1 hwR h1 h2]
  have no : ∀ {v : Option (Int32 × mS)}, ¬ canStow μ l b → v = some (iI (-1), s1) → (¬ canStow μ l b → ∃ s', v = some (iI (-1), s') ∧ MR μ s') ∧ (canStow μ l b → ∃ s', v = some (iI (burd (uR μ) (upI (uX μ) (20 + l) b) b), s') ∧ MR (uNow (uAct μ) (upI (uX μ) (20 + l) b)) s') := fun hn e => ⟨fun _ => ⟨s1, e, m1⟩, fun hc => absurd hc hn⟩
  by_cases q1 : 0 ≤ l ∧ l < rL (uR μ)
  · simp only [if_pos q1, iI_lit, iI_add, iI_sub, iI_mul, iI_neg, Option.bind_some, if_true, if_false, Int.reduceEq, Int.reduceLE, Int.reduceLT, Int.reduceAdd, Int.reduceSub, Int.reduceMul, Int.reduceNeg, Nat.reduceEqDiff, show ¬ iI 1 = iI 0 by decide]
    rw [m_isBoard hR1 hwR h3 h4]
    by_cases q2 : 0 ≤ b ∧ b < rB (uR μ)
    · simp only [if_pos q2, iI_lit, iI_add, iI_sub, iI_mul, iI_neg, Option.bind_some, if_true, if_false, Int.reduceEq, Int.reduceLE, Int.reduceLT, Int.reduceAdd, Int.reduceSub, Int.reduceMul, Int.reduceNeg, Nat.reduceEqDiff, show ¬ iI 1 = iI 0 by decide]
      rw [m_isAtBank hR1 hwR ha1 hw.2.1 q2.1 q2.2]
      have xb := hw.2.1.1 b q2.1 q2.2
      have xl := hw.2.1.2.1 l q1.1 q1.2
      have g1 := ha1 (20 + l) (by omega) (by omega)
      have g2 := ha1 (4 + b) (by omega) (by omega)
      by_cases q3 : atBankI μ b
      · have e2 := m_bankOf (s := s1) (r := uX μ (4 + b)) (by omega) (by omega)
        have e3 := m_burdenOf hR1 hwR a1 hw.2.1 (b := b) (by omega) (by omega)
        have hbd := burd_b hwR (uX μ) b
        have w1 : s1.2.2.1 21 l.toNat = iI (rLW (uR μ) l) := hR1.2.2.2.2.2.2.2.2.2.2.2.1 l q1.1 q1.2
        have w2 : s1.2.2.1 18 b.toNat = iI (rBW (uR μ) b) := hR1.2.2.2.2.2.2.2.2.1 b q2.1 q2.2
        have w3 := hwR.2.2.2.2.2.2.2.2.2.2.1 l q1.1 q1.2
        have w4 := (hwR.2.2.2.2.2.2.2.2.2.1 b q2.1 q2.2).1
        have hbk : -2 ≤ (if uX μ (4 + b) = 0 then -1 else -2 : Int) ∧ (if uX μ (4 + b) = 0 then -1 else -2 : Int) ≤ -1 := by split <;> omega
        rw [if_pos (show uX μ (4 + b) = 0 ∨ uX μ (4 + b) = rR (uR μ) from q3)]
        simp (disch := omega) only [iI_lit, iI_add, iI_sub, iI_mul, iI_neg, Option.bind_some, if_true, if_false, Int.reduceEq, Int.reduceLE, Int.reduceLT, Int.reduceAdd, Int.reduceSub, Int.reduceMul, Int.reduceNeg, Nat.reduceEqDiff, iI_le, iI_lt, iI_eq, ld_i, sto_i, show ¬ iI 1 = iI 0 by decide, g1, g2, e2, e3, w1, w2]
        by_cases q4 : uX μ (20 + l) = (if uX μ (4 + b) = 0 then -1 else -2)
        · rw [if_pos q4]
          by_cases q5 : burd (uR μ) (uX μ) b + rLW (uR μ) l ≤ rBW (uR μ) b
          · rw [if_pos q5]
            have hc : canStow μ l b := ⟨q1, q2, q3, q4, q5⟩
            refine ⟨fun hn => absurd hc hn, fun _ => ?_⟩
            obtain ⟨s2, e4, m2, a2, f2⟩ := m_act m1 hw
            have a3 : ar (aw s2 23 (20 + l).toNat (iI b)) 23 28 (upI (uX μ) (20 + l) b) := ar_aw a2 (by omega)
            obtain ⟨s4, e5, f4, a4⟩ := m_keepAir a3
            have fT : fr [] [22, 23] s2 s4 := ((fr.refl.aw rfl : fr [] [22, 23] s2 (aw s2 23 (20 + l).toNat (iI b)))).trans (f4.mono rfl rfl)
            have m4 := MR.now m2 fT rfl a4
            have hx' : wfS (uR μ) (upI (uX μ) (20 + l) b) := by
              obtain ⟨y1, y2, y3⟩ := hw.2.1
              refine ⟨fun c c1 c2 => ?_, fun k k1 k2 => ?_, ?_⟩
              · unfold upI
                rw [if_neg (by omega), if_neg (by omega), if_neg (by omega), if_neg (by omega)]
                exact y1 c c1 c2
              · unfold upI
                split
                · omega
                · exact y2 k k1 k2
              · unfold upI
                rw [if_neg (by omega)]
                exact y3
            have hR4 : okR (uR μ) s4 := m4.1
            have e6 := m_burdenOf hR4 hwR (f4.ar a3 rfl) hx' (b := b) (by omega) (by omega)
            refine ⟨s4, ?_, m4⟩
            rw [e4]
            simp (disch := omega) only [Option.bind_some]
            rw [show fm_keepAir (mSa s2 23 (upd (s2.2.2.1 23) (20 + l).toNat (iI b))) = some s4 from e5]
            simp only [Option.bind_some]
            rw [e6]
            rfl
          · rw [if_neg q5]
            exact no (fun z => q5 z.2.2.2.2) rfl
        · rw [if_neg q4]
          exact no (fun z => q4 z.2.2.2.1) rfl
      · rw [if_neg (show ¬ (uX μ (4 + b) = 0 ∨ uX μ (4 + b) = rR (uR μ)) from q3)]
        simp only [iI_lit, iI_add, iI_sub, iI_mul, iI_neg, Option.bind_some, if_true, if_false, Int.reduceEq, Int.reduceLE, Int.reduceLT, Int.reduceAdd, Int.reduceSub, Int.reduceMul, Int.reduceNeg, Nat.reduceEqDiff]
        exact no (fun z => q3 z.2.2.1) rfl
    · simp only [if_neg q2, iI_lit, iI_add, iI_sub, iI_mul, iI_neg, Option.bind_some, if_true, if_false, Int.reduceEq, Int.reduceLE, Int.reduceLT, Int.reduceAdd, Int.reduceSub, Int.reduceMul, Int.reduceNeg, Nat.reduceEqDiff]
      exact no (fun z => q2 z.2.1) rfl
  · simp only [if_neg q1, iI_lit, iI_add, iI_sub, iI_mul, iI_neg, Option.bind_some, if_true, if_false, Int.reduceEq, Int.reduceLE, Int.reduceLT, Int.reduceAdd, Int.reduceSub, Int.reduceMul, Int.reduceNeg, Nat.reduceEqDiff]
    exact no (fun z => q1 z.1) rfl
theorem wfS_load {ρ : Rv} {x : Int → Int} {l v : Int} (hw : wfR ρ) (h : wfS ρ x) (h1 : 0 ≤ l) (h2 : l < rL ρ) (h3 : -2 ≤ v) (h4 : v < rB ρ) : wfS ρ (upI x (20 + l) v) := by
  have hb := hw.2.2.1
  have hl := hw.2.2.2.1
  obtain ⟨y1, y2, y3⟩ := h
  refine ⟨fun c c1 c2 => ?_, fun k k1 k2 => ?_, ?_⟩
  · unfold upI
    rw [if_neg (by omega), if_neg (by omega), if_neg (by omega), if_neg (by omega)]
    exact y1 c c1 c2
  · unfold upI
    split
    · omega
    · exact y2 k k1 k2
  · unfold upI
    rw [if_neg (by omega)]
    exact y3
theorem m_take (h : MR μ s) (hw : wfM μ) {l : Int} (h1 : -2147483648 ≤ l) (h2 : l < 2147483648) : (¬ canTake μ l → fm_take s (iI l) = some (iI (-1), s)) ∧ (canTake μ l → ∃ s', fm_take s (iI l) = some (iI (uX μ (20 + l)), s') ∧ MR (uNow (uAct μ) (upI (uX μ) (20 + l) (bankI (uX μ (4 + uX μ (20 + l)))))) s') := by
  have hwR := hw.1
  have hb := hwR.2.2.1
  have hr := hwR.2.1
  have hl := hwR.2.2.2.1
  unfold fm_take
  rw [m_isLoad h.1 hwR h1 h2]
  by_cases q1 : 0 ≤ l ∧ l < rL (uR μ)
  · have xl := hw.2.1.2.1 l q1.1 q1.2
    have g1 := h.2.1 (20 + l) (by omega) (by omega)
    simp (disch := omega) only [if_pos q1, iI_lit, iI_add, iI_sub, iI_mul, iI_neg, Option.bind_some, if_true, if_false, Int.reduceEq, Int.reduceLE, Int.reduceLT, Int.reduceAdd, Int.reduceSub, Int.reduceMul, Int.reduceNeg, Nat.reduceEqDiff, iI_le, iI_lt, iI_eq, ld_i, show ¬ iI 1 = iI 0 by decide, g1]
    by_cases q2 : uX μ (20 + l) < 0
    · rw [if_pos q2]
      exact ⟨fun _ => rfl, fun hc => absurd hc.2.1 (by omega)⟩
    · rw [if_neg q2, m_isAtBank h.1 hwR h.2.1 hw.2.1 (by omega) (by omega)]
      have xb := hw.2.1.1 (uX μ (20 + l)) (by omega) (by omega)
      by_cases q3 : atBankI μ (uX μ (20 + l))
      · rw [if_pos (show uX μ (4 + uX μ (20 + l)) = 0 ∨ uX μ (4 + uX μ (20 + l)) = rR (uR μ) from q3)]
        refine ⟨fun hn => absurd ⟨q1, by omega, q3⟩ hn, fun _ => ?_⟩
        obtain ⟨s2, e4, m2, a2, f2⟩ := m_act h hw
        have ha2 : ar s2 22 28 (uX μ) := m2.2.1
        have g2 := ha2 (20 + l) (by omega) (by omega)
        have g3 := ha2 (4 + uX μ (20 + l)) (by omega) (by omega)
        have e2 := m_bankOf (s := s2) (r := uX μ (4 + uX μ (20 + l))) (by omega) (by omega)
        refine ⟨aw s2 22 (20 + l).toNat (iI (bankI (uX μ (4 + uX μ (20 + l))))), ?_, MR.now m2 (fr.refl.aw rfl : fr [] [22] s2 _) rfl (ar_aw ha2 (by omega))⟩
        simp (disch := omega) only [iI_lit, iI_add, iI_sub, iI_mul, iI_neg, Option.bind_some, if_true, if_false, Int.reduceEq, Int.reduceLE, Int.reduceLT, Int.reduceAdd, Int.reduceSub, Int.reduceMul, Int.reduceNeg, Nat.reduceEqDiff, show ¬ iI 1 = iI 0 by decide, e4, ld_i, sto_w, g2, g3, e2]
        rfl
      · rw [if_neg (show ¬ (uX μ (4 + uX μ (20 + l)) = 0 ∨ uX μ (4 + uX μ (20 + l)) = rR (uR μ)) from q3)]
        simp only [iI_lit, iI_add, iI_sub, iI_mul, iI_neg, Option.bind_some, if_true, if_false, Int.reduceEq, Int.reduceLE, Int.reduceLT, Int.reduceAdd, Int.reduceSub, Int.reduceMul, Int.reduceNeg, Nat.reduceEqDiff]
        exact ⟨fun _ => trivial, fun hc => absurd hc.2.2 q3⟩
  · simp only [if_neg q1, iI_lit, iI_add, iI_sub, iI_mul, iI_neg, Option.bind_some, if_true, if_false, Int.reduceEq, Int.reduceLE, Int.reduceLT, Int.reduceAdd, Int.reduceSub, Int.reduceMul, Int.reduceNeg, Nat.reduceEqDiff]
    exact ⟨fun _ => trivial, fun hc => absurd hc.1 q1⟩
theorem m_cool (h : MR μ s) (hw : wfM μ) {b m : Int} (h1 : -2147483648 ≤ b) (h2 : b < 2147483648) (h3 : -2147483648 ≤ m) (h4 : m < 2147483648) : (¬ canCool μ b m → fm_cool s (iI b) (iI m) = some (iI (-1), s)) ∧ (canCool μ b m → ∃ s', fm_cool s (iI b) (iI m) = some (iI (clampI (uX μ (8 + b) - m) 99), s') ∧ MR (uNow (uAct μ) (upI (uX μ) (8 + b) (clampI (uX μ (8 + b) - m) 99))) s') := by
  have hwR := hw.1
  have hb := hwR.2.2.1
  unfold fm_cool
  rw [m_isBoard h.1 hwR h1 h2]
  by_cases q1 : 0 ≤ b ∧ b < rB (uR μ)
  · simp (disch := omega) only [if_pos q1, iI_lit, iI_add, iI_sub, iI_mul, iI_neg, Option.bind_some, if_true, if_false, Int.reduceEq, Int.reduceLE, Int.reduceLT, Int.reduceAdd, Int.reduceSub, Int.reduceMul, Int.reduceNeg, Nat.reduceEqDiff, show ¬ iI 1 = iI 0 by decide, m_isIn]
    by_cases q2 : 1 ≤ m ∧ m ≤ 9
    · simp only [if_pos q2, iI_lit, iI_add, iI_sub, iI_mul, iI_neg, Option.bind_some, if_true, if_false, Int.reduceEq, Int.reduceLE, Int.reduceLT, Int.reduceAdd, Int.reduceSub, Int.reduceMul, Int.reduceNeg, Nat.reduceEqDiff, show ¬ iI 1 = iI 0 by decide]
      refine ⟨fun hn => absurd ⟨q1, q2⟩ hn, fun _ => ?_⟩
      obtain ⟨s2, e4, m2, a2, f2⟩ := m_act h hw
      have ha2 : ar s2 22 28 (uX μ) := m2.2.1
      have xb := (hw.2.1.1 b q1.1 q1.2).2.2.1
      have g2 := ha2 (8 + b) (by omega) (by omega)
      refine ⟨aw s2 22 (8 + b).toNat (iI (clampI (uX μ (8 + b) - m) 99)), ?_, MR.now m2 (fr.refl.aw rfl : fr [] [22] s2 _) rfl (ar_aw ha2 (by omega))⟩
      simp (disch := omega) only [iI_lit, iI_add, iI_sub, iI_mul, iI_neg, Option.bind_some, if_true, if_false, Int.reduceEq, Int.reduceLE, Int.reduceLT, Int.reduceAdd, Int.reduceSub, Int.reduceMul, Int.reduceNeg, Nat.reduceEqDiff, e4, ld_i, sto_w, g2, m_within, aw_get, true_and]
    · simp only [if_neg q2, iI_lit, iI_add, iI_sub, iI_mul, iI_neg, Option.bind_some, if_true, if_false, Int.reduceEq, Int.reduceLE, Int.reduceLT, Int.reduceAdd, Int.reduceSub, Int.reduceMul, Int.reduceNeg, Nat.reduceEqDiff]
      exact ⟨fun _ => trivial, fun hc => absurd hc.2 q2⟩
  · simp only [if_neg q1, iI_lit, iI_add, iI_sub, iI_mul, iI_neg, Option.bind_some, if_true, if_false, Int.reduceEq, Int.reduceLE, Int.reduceLT, Int.reduceAdd, Int.reduceSub, Int.reduceMul, Int.reduceNeg, Nat.reduceEqDiff]
    exact ⟨fun _ => trivial, fun hc => absurd hc.1 q1⟩
end B6

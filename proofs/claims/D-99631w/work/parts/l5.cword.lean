/-! LAYER 3, the text: the component's words -/
set_option maxRecDepth 100000
/-- what was there before lies below, untouched -/
def oldY (G : ai_G) (y : yS) : Prop := ∀ a c, G.2 a = some c → yt y a = none ∧ a < yn y
/-- a String that was there: its letters -/
def wdG (G : ai_G) (a : Nat) (bs : List Nat) : Prop := ∃ b f g, G.2 a = some (.inr (18, f)) ∧ f 0 = .ref b ∧ f 1 = .int 0 ∧ G.2 b = some (.inl (2, bs.length, .inl g)) ∧ ∀ k, k < bs.length → g k = iI (bs.getD k 0)
/-- a row of Strings that was there -/
def rowG (G : ai_G) (q : Nat) (ws : List (List Nat)) : Prop := ∃ f, G.2 q = some (.inl (6, ws.length, .inr (.inr (.inr (.inr f))))) ∧ ∀ k, k < ws.length → ∃ a, f k = some a ∧ wdG G a (ws.getD k [])
/-- the words, as they were laid before -/
def okW (G : ai_G) : Prop := csI G 51 = some 1 ∧ (∃ a, cst G 52 = some a) ∧ (∀ k, k < 15 → ∃ a, cst G k = some a ∧ wdG G a (cstW.getD k [])) ∧ (∃ q, cst G 53 = some q ∧ rowG G q keptW) ∧ (∃ q, cst G 54 = some q ∧ rowG G q namedW)
theorem chr_tab : ∀ c : Fin 128, (((iI c.val &&& 255).toUInt32) % 65536).toInt32 = iI c.val ∧ ai_fit .char (.int (iI c.val)) = true := by decide +kernel
section L5
variable {G : ai_G} {O : Nat → Nat} {L : List Nat} {c d : Nat} {T : Int → Int} {n : Int} {R A F r : Nat} {y y1 : yS} {τ : Tk}
theorem oldY.fr (h : oldY G y) (f : yF O L c d y y1) : oldY G y1 := by
  intro a c hc
  obtain ⟨h1, h2⟩ := h a c hc
  have := f.nx
  exact ⟨by rw [f.tag h2]; exact h1, by omega⟩
theorem oldY.bn (h : oldY G y) (f : bnd y y1) : oldY G y1 := by
  intro a c hc
  obtain ⟨h1, h2⟩ := h a c hc
  have := f.1
  exact ⟨by rw [f.2.2.2 a h2]; exact h1, by omega⟩
theorem oldY.rd (h : oldY G y) (f : rdY R y y1) : oldY G y1 := by
  intro a c hc
  obtain ⟨h1, h2⟩ := h a c hc
  exact ⟨by rw [f.1.1]; exact h1, by have := f.1.2.2.2.2.1; omega⟩
theorem s_len (hG : okW G) (hy : oldY G y) {a : Nat} {bs : List Nat} (h : wdG G a bs) (hb : bs.length ≤ 8) : ckO G y a = some () ∧ fy_J7_length G y a = some (iI bs.length) := by
  obtain ⟨b, f, g, h1, h2, h3, h4, h5⟩ := h
  have ta := (hy _ _ h1).1
  have tb := (hy _ _ h4).1
  have e1 : ckO G y a = some () := by unfold ckO; rw [ta, h1]; rfl
  have e2 : gOR 0 G y a = some b := by unfold gOR; rw [ta, h1]; simp only [if_true, h2]
  have e3 : gOI 1 G y a = some 0 := by unfold gOI; rw [ta, h1]; simp only [if_true, h3]
  have e4 : aL G y b = some (iI bs.length) := by
    unfold aL
    rw [tb, h4]
    simp only [iI_ofNat]
    rfl
  have e5 : fy_J7_coder G y a = some 0 := by
    unfold fy_J7_coder
    rw [hG.1, obs, if_neg (by decide), e3, obs]
    rfl
  refine ⟨e1, ?_⟩
  unfold fy_J7_length
  rw [e2, obs, e4, obs, e1, obs, e5, obs]
  have : ∀ c : Fin 9, (iI c.val : Int32) >>> ((0 : Int32) &&& 31) = iI c.val := by decide
  exact congrArg some (this ⟨bs.length, by omega⟩)
theorem s_chr (hG : okW G) (hy : oldY G y) {a : Nat} {bs : List Nat} (h : wdG G a bs) (hb : ltW bs) {k : Nat} (hk : k < bs.length) : fy_J7_charAt G y a (iI k) = some (iI (bs.getD k 0)) := by
  obtain ⟨e1, -⟩ := s_len hG hy h hb.1
  obtain ⟨b, f, g, h1, h2, h3, h4, h5⟩ := h
  have hl := hb.1
  have ta := (hy _ _ h1).1
  have tb := (hy _ _ h4).1
  have e2 : gOR 0 G y a = some b := by unfold gOR; rw [ta, h1]; simp only [if_true, h2]
  have e3 : gOI 1 G y a = some 0 := by unfold gOI; rw [ta, h1]; simp only [if_true, h3]
  have e4 : aL G y b = some (iI bs.length) := by
    unfold aL
    rw [tb, h4]
    simp only [iI_ofNat]
    rfl
  have e5 : fy_J7_isLatin1 G y a = some 1 := by
    unfold fy_J7_isLatin1
    rw [hG.1, obs, if_neg (by decide), e3, obs, if_pos rfl]
  obtain ⟨x52, e6⟩ := hG.2.1
  have e7 : fy_J6_checkIndex (iI k) (iI bs.length) = some (iI k) := by
    unfold fy_J6_checkIndex
    rw [i0, if_neg (by rw [iI_lt (by omega) (by omega) (by omega) (by omega)]; omega), if_pos (by rw [iI_lt (by omega) (by omega) (by omega) (by omega)]; omega)]
  have e8 : aB G y b (iI k) = some (iI (bs.getD k 0)) := by
    unfold aB
    rw [tb, h4]
    simp only
    rw [if_pos ⟨Or.inr trivial, inb_i (by omega) (by omega) (by omega)⟩, iI_clamp (by omega) (by omega), Int.toNat_natCast, h5 k hk]
  have hc := hb.2 k hk
  obtain ⟨q1, q2⟩ := chr_tab ⟨bs.getD k 0, by omega⟩
  simp only at q1 q2
  have e9 : fy_J8_charAt G y b (iI k) = some (iI (bs.getD k 0)) := by
    unfold fy_J8_charAt fy_J7_checkIndex
    rw [e4, obs, e6, obs, e7, obs, obs, e8, obs, q1, if_pos q2]
  unfold fy_J7_charAt
  rw [e1, obs, e5, obs, if_neg (by decide), e2, obs, e9, obs, if_pos q2]
theorem kdT_b (so : Int) : 0 ≤ kdT so ∧ kdT so ≤ 4 := by unfold kdT; repeat' split; all_goals omega
theorem kdT_1 {so : Int} : kdT so = 1 ↔ so = 1 := by unfold kdT; repeat' split; all_goals omega
theorem kdT_2 {so : Int} : kdT so = 2 ↔ so = 2 := by unfold kdT; repeat' split; all_goals omega
theorem kdT_4 {so : Int} : kdT so = 4 ↔ so = 3 := by unfold kdT; repeat' split; all_goals omega
theorem kdT_0 {so : Int} : kdT so = 0 ↔ so = 0 := by unfold kdT; repeat' split; all_goals omega
theorem c_isW (hT : txO T n) (hG : okW G) (hy : oldY G y) (h : RB T n R A F r y) (hτ : CT y R τ) (ht : tkO T n τ) {a : Nat} {w : List Nat} (hS : wdG G a w) (hw : ltW w) : fy_Reader_isWord G y R a = some (if isW τ w then 1 else 0) := by
  have hn := hT.1
  obtain ⟨l1, l2⟩ := s_len hG hy hS hw.1
  obtain ⟨t4, t5, t6, -, -⟩ := hτ
  have kb := kdT_b (tS τ)
  have t0 := h.1.1
  obtain ⟨⟨b1, b2, b3⟩, -, -, -, b6⟩ := ht
  have hl := hw.1
  by_cases c1 : tS τ = 1
  · obtain ⟨b7, b8, b9⟩ := b6 c1
    have t5' := t5 (by omega)
    have we : isW τ w ↔ (tE τ - tP τ).toNat = w.length ∧ ∀ k : Nat, k < (tE τ - tP τ).toNat → T (tP τ + k) = w.getD k 0 := by
      rw [← wv_eq (by omega) (fun k k1 k2 => b9 k k1 (by omega)) hw.1 hw.2, ← b8]
      exact ⟨fun z => z.2, fun z => ⟨c1, z⟩⟩
    by_cases c2 : tE τ - tP τ = w.length
    · have loop : ∃ q, lp (fy_Reader_isWord_b28 G y R a) (iI 0) = some q ∧ ∃ j : Nat, q = iI j ∧ j ≤ w.length ∧ (∀ k : Nat, k < j → T (tP τ + k) = w.getD k 0) ∧ (j < w.length → ¬ T (tP τ + j) = w.getD j 0) := by
        refine lp_inv (fun i q => q = iI i ∧ ∀ k : Nat, k < i → T (tP τ + k) = w.getD k 0) w.length ?_ ?_ ⟨rfl, fun k hk => absurd hk (Nat.not_lt_zero k)⟩
        · rintro i q hi ⟨rfl, g⟩
          have e1 := c_sign (G := G) hT h (k := tP τ + i) (by omega) (by omega)
          rw [show hs T n (tP τ + i) = T (tP τ + i) from if_pos (by omega)] at e1
          have e2 := s_chr hG hy hS hw hi
          have hb := hT.2 (tP τ + i)
          have hc := hw.2 i hi
          have step : fy_Reader_isWord_b28 G y R a (iI i) = if T (tP τ + i) = w.getD i 0 then some (.inl (iI ((i : Int) + 1))) else some (.inr (iI i)) := by
            simp (disch := omega) only [fy_Reader_isWord_b28, l1, l2, gI_ok t0, ck_ok t0, t4, e1, e2, iI_lit, iI_add, iI_sub, iI_mul, iI_neg, obs, if_true, if_false, Int.reduceEq, Int.reduceLE, Int.reduceLT, Int.reduceAdd, Int.reduceSub, Int.reduceMul, Int.reduceNeg, Nat.reduceEqDiff, iI_le, iI_lt, iI_eq]
            rw [if_neg (by omega)]
          rw [step]
          by_cases z : T (tP τ + i) = w.getD i 0
          · left
            rw [if_pos z]
            refine ⟨_, rfl, by congr 1, fun k hk => ?_⟩
            by_cases e : k = i
            · rw [e]; exact z
            · exact g k (by omega)
          · right
            rw [if_neg z]
            exact ⟨_, rfl, i, rfl, by omega, g, fun _ => z⟩
        · rintro q ⟨rfl, g⟩
          refine ⟨iI w.length, ?_, w.length, rfl, Nat.le_refl _, g, fun z => absurd z (Nat.lt_irrefl _)⟩
          simp (disch := omega) only [fy_Reader_isWord_b28, l1, l2, iI_lit, iI_add, iI_sub, iI_mul, iI_neg, obs, if_true, if_false, Int.reduceEq, Int.reduceLE, Int.reduceLT, Int.reduceAdd, Int.reduceSub, Int.reduceMul, Int.reduceNeg, Nat.reduceEqDiff, iI_le, iI_lt, iI_eq]
          rw [if_pos (by omega)]
      obtain ⟨q, e1, j, rfl, j1, j2, j3⟩ := loop
      have key : fy_Reader_isWord G y R a = if j = w.length then some 1 else some 0 := by
        unfold fy_Reader_isWord fy_Reader_isWord_j60
        rw [gI_ok t0, obs, t6, kdT_1.mpr c1, if_pos (show iI 1 = (1 : Int32) from rfl), gI_ok t0, obs, t5', gI_ok t0, obs, t4, l1, obs, l2, obs, iI_sub, c2, if_pos rfl, i0, e1, obs, obs, obs]
        by_cases z : j = w.length
        · rw [if_pos (by rw [z]), if_pos z]
        · rw [if_neg (by rw [iI_eq (by omega) (by omega) (by omega) (by omega)]; omega), if_neg z]
      rw [key]
      by_cases z : j = w.length
      · rw [if_pos z, if_pos (we.mpr ⟨by omega, fun k hk => j2 k (by omega)⟩)]
      · rw [if_neg z, if_neg (fun q => j3 (by omega) ((we.mp q).2 j (by omega)))]
    · rw [if_neg (fun z => c2 (by have := (we.mp z).1; omega))]
      unfold fy_Reader_isWord
      rw [gI_ok t0, obs, t6, kdT_1.mpr c1, if_pos (show iI 1 = (1 : Int32) from rfl), gI_ok t0, obs, t5', gI_ok t0, obs, t4, l1, obs, l2, obs, iI_sub, if_neg (by rw [iI_eq (by omega) (by omega) (by omega) (by omega)]; exact c2)]
  · rw [if_neg (fun z => c1 z.1)]
    unfold fy_Reader_isWord
    rw [gI_ok t0, obs, t6, i1, if_neg (by rw [iI_eq (by omega) (by omega) (by omega) (by omega), kdT_1]; exact c1)]
theorem c_which (hT : txO T n) (hG : okW G) (hy : oldY G y) (h : RB T n R A F r y) (hτ : CT y R τ) (ht : tkO T n τ) {q : Nat} {ws : List (List Nat)} (hq : rowG G q ws) (hw : ∀ w ∈ ws, ltW w) (hl : ws.length ≤ 100) : fy_Reader_which G y R q = some (iI (ixW τ ws 0)) := by
  have t0 := h.1.1
  obtain ⟨f, q1, q2⟩ := hq
  have tq := (hy _ _ q1).1
  have eL : aL G y q = some (iI ws.length) := by
    unfold aL
    rw [tq, q1]
    simp only [iI_ofNat]
    rfl
  have main : ∀ (l : List (List Nat)) (k : Nat), k + l.length = ws.length → ws.drop k = l → lp (fy_Reader_which_b2 G y R q) (iI k) = some (if ixW τ l k = -1 then .inl () else .inr (iI (ixW τ l k))) := by
    intro l
    induction l with
    | nil =>
      intro k hk _
      refine lp_out ?_
      simp only [List.length_nil] at hk
      simp (disch := omega) only [fy_Reader_which_b2, eL, iI_lit, iI_add, iI_sub, iI_mul, iI_neg, obs, if_true, if_false, Int.reduceEq, Int.reduceLE, Int.reduceLT, Int.reduceAdd, Int.reduceSub, Int.reduceMul, Int.reduceNeg, Nat.reduceEqDiff, iI_le, iI_lt, iI_eq]
      rw [if_pos (by omega)]
      rfl
    | cons w l ih =>
      intro k hk hd
      simp only [List.length_cons] at hk
      have hkl : k < ws.length := by omega
      have hw1 : ws.getD k [] = w := by
        have z : (ws.drop k)[0]? = ws[k + 0]? := List.getElem?_drop
        rw [hd, Nat.add_zero] at z
        rw [List.getD_eq_getElem?_getD, ← z]
        rfl
      obtain ⟨a, a1, a2⟩ := q2 k hkl
      rw [hw1] at a2
      have hlw : ltW w := hw w (by
        have : w ∈ ws.drop k := by rw [hd]; simp
        exact List.mem_of_mem_drop this)
      have e1 : aE G y q (iI k) = some a := by
        unfold aE
        rw [tq, q1]
        simp only
        rw [if_pos ⟨by decide, inb_i (by omega) (by omega) (by omega)⟩, iI_clamp (by omega) (by omega), Int.toNat_natCast, a1]
      have e2 := c_isW hT hG hy h hτ ht a2 hlw
      have step : fy_Reader_which_b2 G y R q (iI k) = if isW τ w then some (.inr (.inr (iI k))) else some (.inl (iI ((k : Int) + 1))) := by
        simp (disch := omega) only [fy_Reader_which_b2, eL, e1, ck_ok t0, e2, iI_lit, iI_add, iI_sub, iI_mul, iI_neg, obs, if_true, if_false, Int.reduceEq, Int.reduceLE, Int.reduceLT, Int.reduceAdd, Int.reduceSub, Int.reduceMul, Int.reduceNeg, Nat.reduceEqDiff, iI_le, iI_lt, iI_eq]
        rw [if_neg (by omega)]
        by_cases z : isW τ w
        · simp only [if_pos z, show ¬ iI 1 = iI 0 by decide, if_false]
        · simp only [if_neg z, if_true]
      by_cases z : isW τ w
      · rw [if_pos z] at step
        have e3 : ixW τ (w :: l) k = k := if_pos z
        rw [lp_out step, e3, if_neg (by omega)]
      · rw [if_neg z] at step
        have e3 : ixW τ (w :: l) k = ixW τ l ((k : Int) + 1) := if_neg z
        rw [lp_back step, e3]
        have := ih (k + 1) (by omega) (by rw [← List.drop_drop, hd]; rfl)
        rw [show (((k + 1 : Nat) : Int)) = (k : Int) + 1 by omega] at this
        exact this
  have m0 := main ws 0 (by omega) rfl
  unfold fy_Reader_which
  rw [i0, show iI 0 = iI ((0 : Nat) : Int) from rfl, m0, obs]
  by_cases z : ixW τ ws ((0 : Nat) : Int) = -1
  · rw [if_pos z]
    show some (-1) = some (iI (ixW τ ws ((0 : Nat) : Int)))
    rw [z]
    rfl
  · rw [if_neg z]
    rfl
end L5

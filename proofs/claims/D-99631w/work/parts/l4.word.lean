/-! LAYER 3, the text: words -/
set_option maxRecDepth 100000
def W_water : List Nat := [119, 97, 116, 101, 114]
def W_by : List Nat := [98, 121]
def W_current : List Nat := [99, 117, 114, 114, 101, 110, 116]
def W_at : List Nat := [97, 116]
def W_iron : List Nat := [105, 114, 111, 110]
def W_board : List Nat := [98, 111, 97, 114, 100]
def W_wide : List Nat := [119, 105, 100, 101]
def W_bears : List Nat := [98, 101, 97, 114, 115]
def W_load : List Nat := [108, 111, 97, 100]
def W_heat : List Nat := [104, 101, 97, 116]
def W_flood : List Nat := [102, 108, 111, 111, 100]
def W_draw : List Nat := [100, 114, 97, 119]
def W_row : List Nat := [114, 111, 119]
def W_column : List Nat := [99, 111, 108, 117, 109, 110]
def W_strokes : List Nat := [115, 116, 114, 111, 107, 101, 115]
def W_hot : List Nat := [104, 111, 116]
def W_or : List Nat := [111, 114]
def W_and : List Nat := [97, 110, 100]
def W_not : List Nat := [110, 111, 116]
theorem cW_water : (512736126322 : Int64) = wcd W_water := by decide
theorem cW_by : (25209 : Int64) = wcd W_by := by decide
theorem cW_current : (27995157100326516 : Int64) = wcd W_current := by decide
theorem cW_at : (24948 : Int64) = wcd W_at := by decide
theorem cW_iron : (1769107310 : Int64) = wcd W_iron := by decide
theorem cW_board : (422775452260 : Int64) = wcd W_board := by decide
theorem cW_wide : (2003395685 : Int64) = wcd W_wide := by decide
theorem cW_bears : (422607680115 : Int64) = wcd W_bears := by decide
theorem cW_load : (1819238756 : Int64) = wcd W_load := by decide
theorem cW_heat : (1751474548 : Int64) = wcd W_heat := by decide
theorem cW_flood : (439905906532 : Int64) = wcd W_flood := by decide
theorem cW_draw : (1685217655 : Int64) = wcd W_draw := by decide
theorem cW_row : (7499639 : Int64) = wcd W_row := by decide
theorem cW_column : (109330212154734 : Int64) = wcd W_column := by decide
theorem cW_strokes : (32497657166128499 : Int64) = wcd W_strokes := by decide
theorem cW_hot : (6844276 : Int64) = wcd W_hot := by decide
theorem cW_or : (28530 : Int64) = wcd W_or := by decide
theorem cW_and : (6385252 : Int64) = wcd W_and := by decide
theorem cW_not : (7237492 : Int64) = wcd W_not := by decide
def keptW : List (List Nat) := [W_water, W_by, W_current, W_at, W_iron, W_board, W_wide, W_bears, W_load, W_heat, W_flood, W_draw, W_row, W_column, W_strokes, W_hot, W_or, W_and, W_not]
def namedW : List (List Nat) := [W_row, W_column, W_load, W_wide, W_strokes, W_hot]
def cstW : List (List Nat) := [W_water, W_current, W_iron, W_board, W_load, W_heat, W_flood, W_draw, W_by, W_at, W_wide, W_bears, W_not, W_and, W_or]
/-- a word of letters -/
abbrev ltW (w : List Nat) : Prop := w.length ≤ 8 ∧ ∀ k, k < w.length → 97 ≤ w.getD k 0 ∧ w.getD k 0 ≤ 122
theorem kept_lt : ∀ w ∈ keptW, ltW w := by decide
theorem cst_lt : ∀ w ∈ cstW, ltW w := by decide
theorem named_lt : ∀ w ∈ namedW, ltW w := by decide
/-- the token is this word -/
abbrev isW (τ : Tk) (w : List Nat) : Prop := tS τ = 1 ∧ tW τ = wcd w
/-- which word of a row it is -/
def ixW (τ : Tk) : List (List Nat) → Int → Int
  | [], _ => -1
  | w :: l, k => if isW τ w then k else ixW τ l (k + 1)
theorem ixW_b (τ : Tk) : ∀ (l : List (List Nat)) (k : Int), 0 ≤ k → (ixW τ l k = -1 ∧ ∀ w ∈ l, ¬ isW τ w) ∨ (k ≤ ixW τ l k ∧ ixW τ l k < k + l.length ∧ tS τ = 1) := by
  intro l
  induction l with
  | nil => intro k _; exact Or.inl ⟨rfl, fun w hw => absurd hw (by simp)⟩
  | cons w l ih =>
    intro k hk
    simp only [ixW]
    by_cases c : isW τ w
    · rw [if_pos c]
      right
      simp only [List.length_cons]
      exact ⟨Int.le_refl _, by omega, c.1⟩
    · rw [if_neg c]
      rcases ih (k + 1) (by omega) with ⟨h1, h2⟩ | ⟨h1, h2, h3⟩
      · left
        refine ⟨h1, fun v hv => ?_⟩
        rcases List.mem_cons.mp hv with rfl | hv
        · exact c
        · exact h2 v hv
      · right
        simp only [List.length_cons]
        exact ⟨by omega, by omega, h3⟩
/-! the model -/
theorem lg_i {x y : Int64} : lg_cmp x y = iI 0 ↔ x = y := lg_eq
section L4m
variable {s : mS} {τ : Tk}
theorem so_b {T : Int → Int} {n : Int} (h : tkO T n τ) : 0 ≤ tS τ ∧ tS τ ≤ 255 := by
  obtain ⟨-, -, h, -⟩ := h
  rcases h with h | h | h | h | ⟨h, -⟩
  · omega
  · omega
  · omega
  · omega
  · have := isSg_t.mp h; omega
theorem m_isW {T : Int → Int} {n : Int} (h : MT s τ) (ht : tkO T n τ) {w : List Nat} : fm_isWord s (wcd w) = some (if isW τ w then 1 else 0) := by
  have hb := so_b ht
  obtain ⟨h6, -, -, -, hw⟩ := h
  simp (disch := omega) only [fm_isWord, h6, iI_lit, iI_add, iI_sub, iI_mul, iI_neg, obs, if_true, if_false, Int.reduceEq, Int.reduceLE, Int.reduceLT, Int.reduceAdd, Int.reduceSub, Int.reduceMul, Int.reduceNeg, Nat.reduceEqDiff, iI_le, iI_lt, iI_eq, lg_i]
  by_cases c : tS τ = 1
  · rw [if_pos c, hw c]
    by_cases d : tW τ = wcd w
    · rw [if_pos d, if_pos ⟨c, d⟩]
    · rw [if_neg d, if_neg (fun z => d z.2)]
  · rw [if_neg c, if_neg (fun z => c z.1)]
theorem m_isName {T : Int → Int} {n : Int} (h : MT s τ) (ht : tkO T n τ) : fm_isName s = some (if tS τ = 1 ∧ ixW τ keptW 0 < 0 then 1 else 0) := by
  have hb := so_b ht
  obtain ⟨h6, -, -, -, hw⟩ := h
  simp (disch := omega) only [fm_isName, h6, iI_lit, iI_add, iI_sub, iI_mul, iI_neg, obs, if_true, if_false, Int.reduceEq, Int.reduceLE, Int.reduceLT, Int.reduceAdd, Int.reduceSub, Int.reduceMul, Int.reduceNeg, Nat.reduceEqDiff, iI_le, iI_lt, iI_eq]
  by_cases c : tS τ = 1
  · rw [if_pos c]
    have e : fm_isOwn s = some (if ixW τ keptW 0 < 0 then iI 0 else iI 1) := by
      unfold fm_isOwn
      rw [hw c]
      simp only [lg_eq, cW_water, cW_by, cW_current, cW_at, cW_iron, cW_board, cW_wide, cW_bears, cW_load, cW_heat, cW_flood, cW_draw, cW_row, cW_column, cW_strokes, cW_hot, cW_or, cW_and, cW_not]
      rcases ixW_b τ keptW 0 (Int.le_refl 0) with ⟨h1, h2⟩ | ⟨h1, h2, h3⟩
      · rw [if_pos (show ixW τ keptW 0 < 0 by omega)]
        have g : ∀ w ∈ keptW, ¬ tW τ = wcd w := fun w hw z => h2 w hw ⟨c, z⟩
        rw [if_neg (g W_water (by simp [keptW])), if_neg (g W_by (by simp [keptW])), if_neg (g W_current (by simp [keptW])), if_neg (g W_at (by simp [keptW])), if_neg (g W_iron (by simp [keptW])), if_neg (g W_board (by simp [keptW])), if_neg (g W_wide (by simp [keptW])), if_neg (g W_bears (by simp [keptW])), if_neg (g W_load (by simp [keptW])), if_neg (g W_heat (by simp [keptW])), if_neg (g W_flood (by simp [keptW])), if_neg (g W_draw (by simp [keptW])), if_neg (g W_row (by simp [keptW])), if_neg (g W_column (by simp [keptW])), if_neg (g W_strokes (by simp [keptW])), if_neg (g W_hot (by simp [keptW])), if_neg (g W_and (by simp [keptW])), if_neg (g W_or (by simp [keptW])), if_neg (g W_not (by simp [keptW]))]
        rfl
      · rw [if_neg (show ¬ ixW τ keptW 0 < 0 by omega)]
        by_cases z : ∃ w ∈ keptW, tW τ = wcd w
        · obtain ⟨w, hw, e⟩ := z
          rw [e]
          simp only [keptW, List.mem_cons, List.not_mem_nil, or_false] at hw
          rcases hw with rfl | rfl | rfl | rfl | rfl | rfl | rfl | rfl | rfl | rfl | rfl | rfl | rfl | rfl | rfl | rfl | rfl | rfl | rfl <;> decide
        · exfalso
          have g : ∀ (l : List (List Nat)) (k : Int), (∀ w ∈ l, ¬ isW τ w) → ixW τ l k = -1 := by
            intro l
            induction l with
            | nil => intro k _; rfl
            | cons v l ih =>
              intro k hl
              simp only [ixW]
              rw [if_neg (hl v (by simp))]
              exact ih (k + 1) (fun w hw => hl w (by simp [hw]))
          have := g keptW 0 (fun w hw hz => z ⟨w, hw, hz.2⟩)
          omega
    rw [e, obs]
    by_cases d : ixW τ keptW 0 < 0
    · rw [if_pos d, if_pos rfl, if_pos ⟨c, d⟩]
    · rw [if_neg d, if_neg (by decide), if_neg (fun z => d z.2)]
  · rw [if_neg c, if_neg (fun z => c z.1)]
theorem m_asked {T : Int → Int} {n : Int} (h : MT s τ) (ht : tkO T n τ) : fm_asked s = some (iI (ixW τ namedW 0)) := by
  have hb := so_b ht
  obtain ⟨h6, -, -, -, hw⟩ := h
  simp (disch := omega) only [fm_asked, h6, iI_lit, iI_add, iI_sub, iI_mul, iI_neg, obs, if_true, if_false, Int.reduceEq, Int.reduceLE, Int.reduceLT, Int.reduceAdd, Int.reduceSub, Int.reduceMul, Int.reduceNeg, Nat.reduceEqDiff, iI_le, iI_lt, iI_eq]
  by_cases c : tS τ = 1
  · rw [if_pos c, hw c]
    simp only [lg_i, cW_row, cW_column, cW_load, cW_wide, cW_strokes, cW_hot, namedW, ixW]
    by_cases c1 : tW τ = wcd W_row
    · rw [if_pos c1, if_pos (show isW τ W_row from ⟨c, c1⟩)]
    · rw [if_neg c1, if_neg (show ¬ isW τ W_row from fun z => c1 z.2)]
      by_cases c2 : tW τ = wcd W_column
      · rw [if_pos c2, if_pos (show isW τ W_column from ⟨c, c2⟩)]; rfl
      · rw [if_neg c2, if_neg (show ¬ isW τ W_column from fun z => c2 z.2)]
        by_cases c3 : tW τ = wcd W_load
        · rw [if_pos c3, if_pos (show isW τ W_load from ⟨c, c3⟩)]; rfl
        · rw [if_neg c3, if_neg (show ¬ isW τ W_load from fun z => c3 z.2)]
          by_cases c4 : tW τ = wcd W_wide
          · rw [if_pos c4, if_pos (show isW τ W_wide from ⟨c, c4⟩)]; rfl
          · rw [if_neg c4, if_neg (show ¬ isW τ W_wide from fun z => c4 z.2)]
            by_cases c5 : tW τ = wcd W_strokes
            · rw [if_pos c5, if_pos (show isW τ W_strokes from ⟨c, c5⟩)]; rfl
            · rw [if_neg c5, if_neg (show ¬ isW τ W_strokes from fun z => c5 z.2)]
              by_cases c6 : tW τ = wcd W_hot
              · rw [if_pos c6, if_pos (show isW τ W_hot from ⟨c, c6⟩)]; rfl
              · rw [if_neg c6, if_neg (show ¬ isW τ W_hot from fun z => c6 z.2)]
  · rw [if_neg c]
    rcases ixW_b τ namedW 0 (Int.le_refl 0) with ⟨h1, h2⟩ | ⟨h1, h2, h3⟩
    · rw [h1]
    · exact absurd h3 c
end L4m

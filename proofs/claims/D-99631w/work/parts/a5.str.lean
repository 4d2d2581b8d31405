/-! LAYER 3: what a stroke changes -/
set_option maxRecDepth 100000
section ST
variable {ρ : Rv} {x : Int → Int} {b t on k : Int}
def strG (ρ : Rv) (x : Int → Int) (b : Int) : Int := if x (8 + b) + hot ρ x b ≤ 99 then x (8 + b) + hot ρ x b else 99
def strH (ρ : Rv) (x : Int → Int) (b t on k : Int) : Int := rIr ρ (8 * (x (4 + b) + on) + colBy ρ (x b) (x (4 + b)) t k)
theorem str_pt (z : Int) (h1 : 0 ≤ b) (h2 : b < 4) : strS ρ x b t on k z = if z = b then (if strH ρ x b t on k = 0 then colBy ρ (x b) (x (4 + b)) t k else x b) else if z = 4 + b then (if strH ρ x b t on k = 0 then x (4 + b) + on else x (4 + b)) else if z = 8 + b then (if strG ρ x b ≤ rBB ρ b then strG ρ x b else 0) else if z = 12 + b then (if strG ρ x b ≤ rBB ρ b then x (12 + b) else if 999 ≤ x (12 + b) then x (12 + b) else x (12 + b) + 1) else if z = 16 + b then x (16 + b) + 1 else x z := by
  have e : strS ρ x b t on k = if strG ρ x b ≤ rBB ρ b then upI (upI (if strH ρ x b t on k = 0 then upI (upI x b (colBy ρ (x b) (x (4 + b)) t k)) (4 + b) (x (4 + b) + on) else x) (16 + b) (x (16 + b) + 1)) (8 + b) (strG ρ x b) else if 999 ≤ x (12 + b) then upI (upI (if strH ρ x b t on k = 0 then upI (upI x b (colBy ρ (x b) (x (4 + b)) t k)) (4 + b) (x (4 + b) + on) else x) (16 + b) (x (16 + b) + 1)) (8 + b) 0 else upI (upI (upI (if strH ρ x b t on k = 0 then upI (upI x b (colBy ρ (x b) (x (4 + b)) t k)) (4 + b) (x (4 + b) + on) else x) (16 + b) (x (16 + b) + 1)) (8 + b) 0) (12 + b) (x (12 + b) + 1) := rfl
  rw [e]
  clear e
  generalize strG ρ x b = g
  generalize strH ρ x b t on k = hs
  generalize colBy ρ (x b) (x (4 + b)) t k = c
  by_cases hi : hs = 0
  · simp only [if_pos hi]
    by_cases hg : g ≤ rBB ρ b
    · simp only [if_pos hg, upI]
      repeat' split
      all_goals first | rfl | omega | (subst_vars; rfl)
    · simp only [if_neg hg]
      by_cases h9 : 999 ≤ x (12 + b)
      · simp only [if_pos h9, upI]
        repeat' split
        all_goals first | rfl | omega | (subst_vars; rfl)
      · simp only [if_neg h9, upI]
        repeat' split
        all_goals first | rfl | omega | (subst_vars; rfl)
  · simp only [if_neg hi]
    by_cases hg : g ≤ rBB ρ b
    · simp only [if_pos hg, upI]
      repeat' split
      all_goals first | rfl | omega | (subst_vars; rfl)
    · simp only [if_neg hg]
      by_cases h9 : 999 ≤ x (12 + b)
      · simp only [if_pos h9, upI]
        repeat' split
        all_goals first | rfl | omega | (subst_vars; rfl)
      · simp only [if_neg h9, upI]
        repeat' split
        all_goals first | rfl | omega | (subst_vars; rfl)
theorem str_col (h1 : 0 ≤ b) (h2 : b < 4) : strS ρ x b t on k b = if strH ρ x b t on k = 0 then colBy ρ (x b) (x (4 + b)) t k else x b := by
  rw [str_pt _ h1 h2, if_pos rfl]
theorem str_row (h1 : 0 ≤ b) (h2 : b < 4) : strS ρ x b t on k (4 + b) = if strH ρ x b t on k = 0 then x (4 + b) + on else x (4 + b) := by
  rw [str_pt _ h1 h2, if_neg (by omega), if_pos rfl]
theorem str_heat (h1 : 0 ≤ b) (h2 : b < 4) : strS ρ x b t on k (8 + b) = if strG ρ x b ≤ rBB ρ b then strG ρ x b else 0 := by
  rw [str_pt _ h1 h2, if_neg (by omega), if_neg (by omega), if_pos rfl]
theorem str_sc (h1 : 0 ≤ b) (h2 : b < 4) : strS ρ x b t on k (12 + b) = if strG ρ x b ≤ rBB ρ b then x (12 + b) else if 999 ≤ x (12 + b) then x (12 + b) else x (12 + b) + 1 := by
  rw [str_pt _ h1 h2, if_neg (by omega), if_neg (by omega), if_neg (by omega), if_pos rfl]
theorem str_else {z : Int} (h6 : 0 ≤ b) (h7 : b < 4) (h1 : ¬ z = b) (h2 : ¬ z = 4 + b) (h3 : ¬ z = 8 + b) (h4 : ¬ z = 12 + b) (h5 : ¬ z = 16 + b) : strS ρ x b t on k z = x z := by
  rw [str_pt _ h6 h7, if_neg h1, if_neg h2, if_neg h3, if_neg h4, if_neg h5]
theorem wfS_str (hw : wfR ρ) (hx : wfS ρ x) (h1 : 0 ≤ b) (h2 : b < rB ρ) (h7 : 0 ≤ x (4 + b) + on) (h8 : x (4 + b) + on ≤ rR ρ) : wfS ρ (strS ρ x b t on k) := by
  have hw1 := hw
  obtain ⟨hC, hRr, hbb, hl, -, -, -, -, hir, hbw, -⟩ := hw
  have hcb := colBy_b hw1 (x b) (x (4 + b)) t k
  have hh := hot_b ρ x b
  obtain ⟨g1, g2, g3⟩ := hx
  obtain ⟨⟨c1, c2⟩, ⟨c3, c4⟩, ⟨c5, c6⟩, c7, c8⟩ := g1 b h1 h2
  refine ⟨fun e he1 he2 => ?_, fun l hl1 hl2 => ?_, ?_⟩
  · by_cases he : e = b
    · subst he
      rw [str_col h1 (by omega), str_row h1 (by omega), str_heat h1 (by omega), str_sc h1 (by omega)]
      unfold strG
      refine ⟨?_, ?_, ?_, ?_⟩
      · split <;> omega
      · split <;> omega
      · repeat' split
        all_goals omega
      · repeat' split
        all_goals omega
    · rw [str_else h1 (by omega) he (by omega) (by omega) (by omega) (by omega), str_else h1 (by omega) (by omega) (by omega) (by omega) (by omega) (by omega), str_else h1 (by omega) (by omega) (by omega) (by omega) (by omega) (by omega), str_else h1 (by omega) (by omega) (by omega) (by omega) (by omega) (by omega)]
      exact g1 e he1 he2
  · rw [str_else h1 (by omega) (by omega) (by omega) (by omega) (by omega) (by omega)]
    exact g2 l hl1 hl2
  · rw [str_else h1 (by omega) (by omega) (by omega) (by omega) (by omega) (by omega)]
    exact g3
theorem strV_b (hw : wfR ρ) (hx : wfS ρ x) (h1 : 0 ≤ b) (h2 : b < rB ρ) (h7 : 0 ≤ x (4 + b) + on) (h8 : x (4 + b) + on ≤ rR ρ) : strV ρ x b t on k = strH ρ x b t on k + 2 * (if strG ρ x b ≤ rBB ρ b then 0 else 1) ∧ (strH ρ x b t on k = 0 ∨ strH ρ x b t on k = 1) := by
  have hw1 := hw
  obtain ⟨hC, hRr, hbb, hl, -, -, -, -, hir, hbw, -⟩ := hw
  have hcb := colBy_b hw1 (x b) (x (4 + b)) t k
  exact ⟨rfl, hir _ (by omega) (by omega)⟩
end ST

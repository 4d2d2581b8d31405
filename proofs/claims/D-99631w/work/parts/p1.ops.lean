/-! THE LAW: both calls of an operation, in one heap (printed by tools/gen_p1.py) -/
set_option maxRecDepth 100000
section P1
variable {G : ai_G} {X M : Nat} {y : yS} {s : mS} {h0 : ai_H}
theorem q_feed (hO : hOld G h0) (hG : okW G) (hg : okG G) (I : IV G X M y s) (a b c d9 e9 : Int32) : ∃ v y' s', ai_call G 133 21 [.ref X, .int a, .int b, .int c, .int d9, .int e9] (mH M s (yH y h0)) = some (.inl (some (.int v)), mH M s (yH y' h0)) ∧ ai_call G 133 23 [.ref M, .int a, .int b, .int c, .int d9, .int e9] (mH M s (yH y' h0)) = some (.inl (some (.int v)), mH M s' (yH y' h0)) ∧ IV G X M y' s' ∧ bnd y y' := by
  obtain ⟨v, y', s', e1, e2, hp, hb⟩ := P_feed I.1 a b c d9 e9
  have I2 := I.next hp hb
  have c1 : ai_call G 133 21 [.ref X, .int a, .int b, .int c, .int d9, .int e9] (yH y (mH M s h0)) = some (.inl (some (.int v)), yH y' (mH M s h0)) := wfy_B_feed (d := 131) (I.old hO) y X a b c d9 e9 _ e1
  rw [pair_eq I.2.2.1, pair_eq I2.2.2.1] at c1
  have c2 : ai_call G 133 23 [.ref M, .int a, .int b, .int c, .int d9, .int e9] (mH M s (yH y' h0)) = some (.inl (some (.int v)), mH M s' (yH y' h0)) := wfm_feed (d := 131) (h0 := yH y' h0) s a b c d9 e9 _ e2
  exact ⟨v, y', s', c1, c2, I2, hb⟩
theorem q_end (hO : hOld G h0) (hG : okW G) (hg : okG G) (I : IV G X M y s) (a : Int32) : ∃ v y' s', ai_call G 133 24 [.ref X, .int a] (mH M s (yH y h0)) = some (.inl (some (.int v)), mH M s (yH y' h0)) ∧ ai_call G 133 25 [.ref M, .int a] (mH M s (yH y' h0)) = some (.inl (some (.int v)), mH M s' (yH y' h0)) ∧ IV G X M y' s' ∧ bnd y y' := by
  obtain ⟨v, y', s', e1, e2, hp, hb⟩ := P_end I.1 a
  have I2 := I.next hp hb
  have c1 : ai_call G 133 24 [.ref X, .int a] (yH y (mH M s h0)) = some (.inl (some (.int v)), yH y' (mH M s h0)) := wfy_B_end (d := 132) (I.old hO) y X a _ e1
  rw [pair_eq I.2.2.1, pair_eq I2.2.2.1] at c1
  have c2 : ai_call G 133 25 [.ref M, .int a] (mH M s (yH y' h0)) = some (.inl (some (.int v)), mH M s' (yH y' h0)) := wfm_end (d := 132) (h0 := yH y' h0) s a _ e2
  exact ⟨v, y', s', c1, c2, I2, hb⟩
theorem q_river (hO : hOld G h0) (hG : okW G) (hg : okG G) (I : IV G X M y s) : ∃ v y' s', ai_call G 133 89 [.ref X] (mH M s (yH y h0)) = some (.inl (some (.int v)), mH M s (yH y' h0)) ∧ ai_call G 133 124 [.ref M] (mH M s (yH y' h0)) = some (.inl (some (.int v)), mH M s' (yH y' h0)) ∧ IV G X M y' s' ∧ bnd y y' := by
  obtain ⟨v, y', s', e1, e2, hp, hb⟩ := P_river hG hg I.2.1 I.1
  have I2 := I.next hp hb
  have c1 : ai_call G 133 89 [.ref X] (yH y (mH M s h0)) = some (.inl (some (.int v)), yH y' (mH M s h0)) := wfy_B_river (d := 21) (I.old hO) y X _ e1
  rw [pair_eq I.2.2.1, pair_eq I2.2.2.1] at c1
  have c2 : ai_call G 133 124 [.ref M] (mH M s (yH y' h0)) = some (.inl (some (.int v)), mH M s' (yH y' h0)) := wfm_river (d := 125) (h0 := yH y' h0) s _ e2
  exact ⟨v, y', s', c1, c2, I2, hb⟩
theorem q_fault (hO : hOld G h0) (hG : okW G) (hg : okG G) (I : IV G X M y s) (a : Int32) : ∃ v y' s', ai_call G 133 125 [.ref X, .int a] (mH M s (yH y h0)) = some (.inl (some (.int v)), mH M s (yH y' h0)) ∧ ai_call G 133 126 [.ref M, .int a] (mH M s (yH y' h0)) = some (.inl (some (.int v)), mH M s' (yH y' h0)) ∧ IV G X M y' s' ∧ bnd y y' := by
  obtain ⟨v, e1, e2, hp⟩ := P_fault I.1 a
  have I2 := I.next hp bnd.refl
  have c1 : ai_call G 133 125 [.ref X, .int a] (yH y (mH M s h0)) = some (.inl (some (.int v)), yH y (mH M s h0)) := wfy_B_fault (d := 132) (I.old hO) y X a _ e1
  rw [pair_eq I.2.2.1] at c1
  have c2 : ai_call G 133 126 [.ref M, .int a] (mH M s (yH y h0)) = some (.inl (some (.int v)), mH M s (yH y h0)) := wfm_fault (d := 132) (h0 := yH y h0) s a _ e2
  exact ⟨v, y, s, c1, c2, I2, bnd.refl⟩
theorem q_board (hO : hOld G h0) (hG : okW G) (hg : okG G) (I : IV G X M y s) (a b : Int32) : ∃ v y' s', ai_call G 133 133 [.ref X, .int a, .int b] (mH M s (yH y h0)) = some (.inl (some (.int v)), mH M s (yH y' h0)) ∧ ai_call G 133 140 [.ref M, .int a, .int b] (mH M s (yH y' h0)) = some (.inl (some (.int v)), mH M s' (yH y' h0)) ∧ IV G X M y' s' ∧ bnd y y' := by
  obtain ⟨v, s', e1, e2, hp⟩ := P_board I.1 a b
  have I2 := I.next hp bnd.refl
  have c1 : ai_call G 133 133 [.ref X, .int a, .int b] (yH y (mH M s h0)) = some (.inl (some (.int v)), yH y (mH M s h0)) := wfy_B_board (d := 127) (I.old hO) y X a b _ e1
  rw [pair_eq I.2.2.1] at c1
  have c2 : ai_call G 133 140 [.ref M, .int a, .int b] (mH M s (yH y h0)) = some (.inl (some (.int v)), mH M s' (yH y h0)) := wfm_board (d := 130) (h0 := yH y h0) s a b _ e2
  exact ⟨v, y, s', c1, c2, I2, bnd.refl⟩
theorem q_load (hO : hOld G h0) (hG : okW G) (hg : okG G) (I : IV G X M y s) (a b : Int32) : ∃ v y' s', ai_call G 133 143 [.ref X, .int a, .int b] (mH M s (yH y h0)) = some (.inl (some (.int v)), mH M s (yH y' h0)) ∧ ai_call G 133 145 [.ref M, .int a, .int b] (mH M s (yH y' h0)) = some (.inl (some (.int v)), mH M s' (yH y' h0)) ∧ IV G X M y' s' ∧ bnd y y' := by
  obtain ⟨v, e1, e2, hp⟩ := P_load I.1 a b
  have I2 := I.next hp bnd.refl
  have c1 : ai_call G 133 143 [.ref X, .int a, .int b] (yH y (mH M s h0)) = some (.inl (some (.int v)), yH y (mH M s h0)) := wfy_B_load (d := 129) (I.old hO) y X a b _ e1
  rw [pair_eq I.2.2.1] at c1
  have c2 : ai_call G 133 145 [.ref M, .int a, .int b] (mH M s (yH y h0)) = some (.inl (some (.int v)), mH M s (yH y h0)) := wfm_load (d := 130) (h0 := yH y h0) s a b _ e2
  exact ⟨v, y, s, c1, c2, I2, bnd.refl⟩
theorem q_spot (hO : hOld G h0) (hG : okW G) (hg : okG G) (I : IV G X M y s) (a b c : Int32) : ∃ v y' s', ai_call G 133 146 [.ref X, .int a, .int b, .int c] (mH M s (yH y h0)) = some (.inl (some (.int v)), mH M s (yH y' h0)) ∧ ai_call G 133 149 [.ref M, .int a, .int b, .int c] (mH M s (yH y' h0)) = some (.inl (some (.int v)), mH M s' (yH y' h0)) ∧ IV G X M y' s' ∧ bnd y y' := by
  obtain ⟨v, e1, e2, hp⟩ := P_spot I.1 a b c
  have I2 := I.next hp bnd.refl
  have c1 : ai_call G 133 146 [.ref X, .int a, .int b, .int c] (yH y (mH M s h0)) = some (.inl (some (.int v)), yH y (mH M s h0)) := wfy_B_spot (d := 131) (I.old hO) y X a b c _ e1
  rw [pair_eq I.2.2.1] at c1
  have c2 : ai_call G 133 149 [.ref M, .int a, .int b, .int c] (mH M s (yH y h0)) = some (.inl (some (.int v)), mH M s (yH y h0)) := wfm_spot (d := 131) (h0 := yH y h0) s a b c _ e2
  exact ⟨v, y, s, c1, c2, I2, bnd.refl⟩
theorem q_hotter (hO : hOld G h0) (hG : okW G) (hg : okG G) (I : IV G X M y s) (a : Int32) : ∃ v y' s', ai_call G 133 157 [.ref X, .int a] (mH M s (yH y h0)) = some (.inl (some (.int v)), mH M s (yH y' h0)) ∧ ai_call G 133 161 [.ref M, .int a] (mH M s (yH y' h0)) = some (.inl (some (.int v)), mH M s' (yH y' h0)) ∧ IV G X M y' s' ∧ bnd y y' := by
  obtain ⟨v, y', s', e1, e2, hp, hb⟩ := P_hotter I.1 a
  have I2 := I.next hp hb
  have c1 : ai_call G 133 157 [.ref X, .int a] (yH y (mH M s h0)) = some (.inl (some (.int v)), yH y' (mH M s h0)) := wfy_B_hotter (d := 3) (I.old hO) y X a _ e1
  rw [pair_eq I.2.2.1, pair_eq I2.2.2.1] at c1
  have c2 : ai_call G 133 161 [.ref M, .int a] (mH M s (yH y' h0)) = some (.inl (some (.int v)), mH M s' (yH y' h0)) := wfm_hotter (d := 129) (h0 := yH y' h0) s a _ e2
  exact ⟨v, y', s', c1, c2, I2, hb⟩
theorem q_stroke (hO : hOld G h0) (hG : okW G) (hg : okG G) (I : IV G X M y s) (a b c : Int32) (hc : c = 0 ∨ c = 1) : ∃ v y' s', ai_call G 133 168 [.ref X, .int a, .int b, .int c] (mH M s (yH y h0)) = some (.inl (some (.int v)), mH M s (yH y' h0)) ∧ ai_call G 133 173 [.ref M, .int a, .int b, .int c] (mH M s (yH y' h0)) = some (.inl (some (.int v)), mH M s' (yH y' h0)) ∧ IV G X M y' s' ∧ bnd y y' := by
  obtain ⟨v, y', s', e1, e2, hp, hb⟩ := P_stroke hg I.1 a b c hc
  have I2 := I.next hp hb
  have c1 : ai_call G 133 168 [.ref X, .int a, .int b, .int c] (yH y (mH M s h0)) = some (.inl (some (.int v)), yH y' (mH M s h0)) := wfy_B_stroke (d := 2) (I.old hO) y X a b c _ e1
  rw [pair_eq I.2.2.1, pair_eq I2.2.2.1] at c1
  have c2 : ai_call G 133 173 [.ref M, .int a, .int b, .int c] (mH M s (yH y' h0)) = some (.inl (some (.int v)), mH M s' (yH y' h0)) := wfm_stroke (d := 128) (h0 := yH y' h0) s a b c _ e2
  exact ⟨v, y', s', c1, c2, I2, hb⟩
theorem q_stow (hO : hOld G h0) (hG : okW G) (hg : okG G) (I : IV G X M y s) (a b : Int32) : ∃ v y' s', ai_call G 133 176 [.ref X, .int a, .int b] (mH M s (yH y h0)) = some (.inl (some (.int v)), mH M s (yH y' h0)) ∧ ai_call G 133 179 [.ref M, .int a, .int b] (mH M s (yH y' h0)) = some (.inl (some (.int v)), mH M s' (yH y' h0)) ∧ IV G X M y' s' ∧ bnd y y' := by
  obtain ⟨v, y', s', e1, e2, hp, hb⟩ := P_stow hg I.1 a b
  have I2 := I.next hp hb
  have c1 : ai_call G 133 176 [.ref X, .int a, .int b] (yH y (mH M s h0)) = some (.inl (some (.int v)), yH y' (mH M s h0)) := wfy_B_stow (d := 125) (I.old hO) y X a b _ e1
  rw [pair_eq I.2.2.1, pair_eq I2.2.2.1] at c1
  have c2 : ai_call G 133 179 [.ref M, .int a, .int b] (mH M s (yH y' h0)) = some (.inl (some (.int v)), mH M s' (yH y' h0)) := wfm_stow (d := 130) (h0 := yH y' h0) s a b _ e2
  exact ⟨v, y', s', c1, c2, I2, hb⟩
theorem q_take (hO : hOld G h0) (hG : okW G) (hg : okG G) (I : IV G X M y s) (a : Int32) : ∃ v y' s', ai_call G 133 180 [.ref X, .int a] (mH M s (yH y h0)) = some (.inl (some (.int v)), mH M s (yH y' h0)) ∧ ai_call G 133 181 [.ref M, .int a] (mH M s (yH y' h0)) = some (.inl (some (.int v)), mH M s' (yH y' h0)) ∧ IV G X M y' s' ∧ bnd y y' := by
  obtain ⟨v, y', s', e1, e2, hp, hb⟩ := P_take hg I.1 a
  have I2 := I.next hp hb
  have c1 : ai_call G 133 180 [.ref X, .int a] (yH y (mH M s h0)) = some (.inl (some (.int v)), yH y' (mH M s h0)) := wfy_B_take (d := 125) (I.old hO) y X a _ e1
  rw [pair_eq I.2.2.1, pair_eq I2.2.2.1] at c1
  have c2 : ai_call G 133 181 [.ref M, .int a] (mH M s (yH y' h0)) = some (.inl (some (.int v)), mH M s' (yH y' h0)) := wfm_take (d := 130) (h0 := yH y' h0) s a _ e2
  exact ⟨v, y', s', c1, c2, I2, hb⟩
theorem q_cool (hO : hOld G h0) (hG : okW G) (hg : okG G) (I : IV G X M y s) (a b : Int32) : ∃ v y' s', ai_call G 133 182 [.ref X, .int a, .int b] (mH M s (yH y h0)) = some (.inl (some (.int v)), mH M s (yH y' h0)) ∧ ai_call G 133 183 [.ref M, .int a, .int b] (mH M s (yH y' h0)) = some (.inl (some (.int v)), mH M s' (yH y' h0)) ∧ IV G X M y' s' ∧ bnd y y' := by
  obtain ⟨v, y', s', e1, e2, hp, hb⟩ := P_cool hg I.1 a b
  have I2 := I.next hp hb
  have c1 : ai_call G 133 182 [.ref X, .int a, .int b] (yH y (mH M s h0)) = some (.inl (some (.int v)), yH y' (mH M s h0)) := wfy_B_cool (d := 125) (I.old hO) y X a b _ e1
  rw [pair_eq I.2.2.1, pair_eq I2.2.2.1] at c1
  have c2 : ai_call G 133 183 [.ref M, .int a, .int b] (mH M s (yH y' h0)) = some (.inl (some (.int v)), mH M s' (yH y' h0)) := wfm_cool (d := 130) (h0 := yH y' h0) s a b _ e2
  exact ⟨v, y', s', c1, c2, I2, hb⟩
theorem q_undo (hO : hOld G h0) (hG : okW G) (hg : okG G) (I : IV G X M y s) : ∃ v y' s', ai_call G 133 186 [.ref X] (mH M s (yH y h0)) = some (.inl (some (.int v)), mH M s (yH y' h0)) ∧ ai_call G 133 188 [.ref M] (mH M s (yH y' h0)) = some (.inl (some (.int v)), mH M s' (yH y' h0)) ∧ IV G X M y' s' ∧ bnd y y' := by
  obtain ⟨v, y', s', e1, e2, hp, hb⟩ := P_undo hg I.1
  have I2 := I.next hp hb
  have c1 : ai_call G 133 186 [.ref X] (yH y (mH M s h0)) = some (.inl (some (.int v)), yH y' (mH M s h0)) := wfy_B_undo (d := 126) (I.old hO) y X _ e1
  rw [pair_eq I.2.2.1, pair_eq I2.2.2.1] at c1
  have c2 : ai_call G 133 188 [.ref M] (mH M s (yH y' h0)) = some (.inl (some (.int v)), mH M s' (yH y' h0)) := wfm_undo (d := 131) (h0 := yH y' h0) s _ e2
  exact ⟨v, y', s', c1, c2, I2, hb⟩
theorem q_redo (hO : hOld G h0) (hG : okW G) (hg : okG G) (I : IV G X M y s) : ∃ v y' s', ai_call G 133 189 [.ref X] (mH M s (yH y h0)) = some (.inl (some (.int v)), mH M s (yH y' h0)) ∧ ai_call G 133 190 [.ref M] (mH M s (yH y' h0)) = some (.inl (some (.int v)), mH M s' (yH y' h0)) ∧ IV G X M y' s' ∧ bnd y y' := by
  obtain ⟨v, y', s', e1, e2, hp, hb⟩ := P_redo hg I.1
  have I2 := I.next hp hb
  have c1 : ai_call G 133 189 [.ref X] (yH y (mH M s h0)) = some (.inl (some (.int v)), yH y' (mH M s h0)) := wfy_B_redo (d := 126) (I.old hO) y X _ e1
  rw [pair_eq I.2.2.1, pair_eq I2.2.2.1] at c1
  have c2 : ai_call G 133 190 [.ref M] (mH M s (yH y' h0)) = some (.inl (some (.int v)), mH M s' (yH y' h0)) := wfm_redo (d := 131) (h0 := yH y' h0) s _ e2
  exact ⟨v, y', s', c1, c2, I2, hb⟩
theorem q_landings (hO : hOld G h0) (hG : okW G) (hg : okG G) (I : IV G X M y s) (a : Int32) : ∃ v y' s', ai_call G 133 196 [.ref X, .int a] (mH M s (yH y h0)) = some (.inl (some (.int v)), mH M s (yH y' h0)) ∧ ai_call G 133 201 [.ref M, .int a] (mH M s (yH y' h0)) = some (.inl (some (.int v)), mH M s' (yH y' h0)) ∧ IV G X M y' s' ∧ bnd y y' := by
  obtain ⟨v, y', s', e1, e2, hp, hb⟩ := P_landings I.1 a
  have I2 := I.next hp hb
  have c1 : ai_call G 133 196 [.ref X, .int a] (yH y (mH M s h0)) = some (.inl (some (.int v)), yH y' (mH M s h0)) := wfy_B_landings (d := 0) (I.old hO) y X a _ e1
  rw [pair_eq I.2.2.1, pair_eq I2.2.2.1] at c1
  have c2 : ai_call G 133 201 [.ref M, .int a] (mH M s (yH y' h0)) = some (.inl (some (.int v)), mH M s' (yH y' h0)) := wfm_landings (d := 126) (h0 := yH y' h0) s a _ e2
  exact ⟨v, y', s', c1, c2, I2, hb⟩
theorem q_drift (hO : hOld G h0) (hG : okW G) (hg : okG G) (I : IV G X M y s) (a : Int32) : ∃ v y' s', ai_call G 133 203 [.ref X, .int a] (mH M s (yH y h0)) = some (.inl (some (.int v)), mH M s (yH y' h0)) ∧ ai_call G 133 205 [.ref M, .int a] (mH M s (yH y' h0)) = some (.inl (some (.int v)), mH M s' (yH y' h0)) ∧ IV G X M y' s' ∧ bnd y y' := by
  obtain ⟨v, y', s', e1, e2, hp, hb⟩ := P_drift I.1 a
  have I2 := I.next hp hb
  have c1 : ai_call G 133 203 [.ref X, .int a] (yH y (mH M s h0)) = some (.inl (some (.int v)), yH y' (mH M s h0)) := wfy_B_drift (d := 1) (I.old hO) y X a _ e1
  rw [pair_eq I.2.2.1, pair_eq I2.2.2.1] at c1
  have c2 : ai_call G 133 205 [.ref M, .int a] (mH M s (yH y' h0)) = some (.inl (some (.int v)), mH M s' (yH y' h0)) := wfm_drift (d := 127) (h0 := yH y' h0) s a _ e2
  exact ⟨v, y', s', c1, c2, I2, hb⟩
theorem q_rows (hO : hOld G h0) (hG : okW G) (hg : okG G) (I : IV G X M y s) (a : Int32) : ∃ v y' s', ai_call G 133 206 [.ref X, .int a] (mH M s (yH y h0)) = some (.inl (some (.int v)), mH M s (yH y' h0)) ∧ ai_call G 133 207 [.ref M, .int a] (mH M s (yH y' h0)) = some (.inl (some (.int v)), mH M s' (yH y' h0)) ∧ IV G X M y' s' ∧ bnd y y' := by
  obtain ⟨v, y', s', e1, e2, hp, hb⟩ := P_rows I.1 a
  have I2 := I.next hp hb
  have c1 : ai_call G 133 206 [.ref X, .int a] (yH y (mH M s h0)) = some (.inl (some (.int v)), yH y' (mH M s h0)) := wfy_B_rows (d := 1) (I.old hO) y X a _ e1
  rw [pair_eq I.2.2.1, pair_eq I2.2.2.1] at c1
  have c2 : ai_call G 133 207 [.ref M, .int a] (mH M s (yH y' h0)) = some (.inl (some (.int v)), mH M s' (yH y' h0)) := wfm_rows (d := 127) (h0 := yH y' h0) s a _ e2
  exact ⟨v, y', s', c1, c2, I2, hb⟩
theorem q_coolest (hO : hOld G h0) (hG : okW G) (hg : okG G) (I : IV G X M y s) (a b : Int32) : ∃ v y' s', ai_call G 133 211 [.ref X, .int a, .int b] (mH M s (yH y h0)) = some (.inl (some (.int v)), mH M s (yH y' h0)) ∧ ai_call G 133 213 [.ref M, .int a, .int b] (mH M s (yH y' h0)) = some (.inl (some (.int v)), mH M s' (yH y' h0)) ∧ IV G X M y' s' ∧ bnd y y' := by
  obtain ⟨v, y', s', e1, e2, hp, hb⟩ := P_coolest I.1 a b
  have I2 := I.next hp hb
  have c1 : ai_call G 133 211 [.ref X, .int a, .int b] (yH y (mH M s h0)) = some (.inl (some (.int v)), yH y' (mH M s h0)) := wfy_B_coolest (d := 0) (I.old hO) y X a b _ e1
  rw [pair_eq I.2.2.1, pair_eq I2.2.2.1] at c1
  have c2 : ai_call G 133 213 [.ref M, .int a, .int b] (mH M s (yH y' h0)) = some (.inl (some (.int v)), mH M s' (yH y' h0)) := wfm_coolest (d := 127) (h0 := yH y' h0) s a b _ e2
  exact ⟨v, y', s', c1, c2, I2, hb⟩
theorem q_straight (hO : hOld G h0) (hG : okW G) (hg : okG G) (I : IV G X M y s) (a b : Int32) : ∃ v y' s', ai_call G 133 214 [.ref X, .int a, .int b] (mH M s (yH y h0)) = some (.inl (some (.int v)), mH M s (yH y' h0)) ∧ ai_call G 133 216 [.ref M, .int a, .int b] (mH M s (yH y' h0)) = some (.inl (some (.int v)), mH M s' (yH y' h0)) ∧ IV G X M y' s' ∧ bnd y y' := by
  obtain ⟨v, y', s', e1, e2, hp, hb⟩ := P_straight I.1 a b
  have I2 := I.next hp hb
  have c1 : ai_call G 133 214 [.ref X, .int a, .int b] (yH y (mH M s h0)) = some (.inl (some (.int v)), yH y' (mH M s h0)) := wfy_B_straight (d := 0) (I.old hO) y X a b _ e1
  rw [pair_eq I.2.2.1, pair_eq I2.2.2.1] at c1
  have c2 : ai_call G 133 216 [.ref M, .int a, .int b] (mH M s (yH y' h0)) = some (.inl (some (.int v)), mH M s' (yH y' h0)) := wfm_straight (d := 127) (h0 := yH y' h0) s a b _ e2
  exact ⟨v, y', s', c1, c2, I2, hb⟩
theorem q_widest (hO : hOld G h0) (hG : okW G) (hg : okG G) (I : IV G X M y s) (a b : Int32) : ∃ v y' s', ai_call G 133 217 [.ref X, .int a, .int b] (mH M s (yH y h0)) = some (.inl (some (.int v)), mH M s (yH y' h0)) ∧ ai_call G 133 219 [.ref M, .int a, .int b] (mH M s (yH y' h0)) = some (.inl (some (.int v)), mH M s' (yH y' h0)) ∧ IV G X M y' s' ∧ bnd y y' := by
  obtain ⟨v, s', e1, e2, hp⟩ := P_widest I.1 a b
  have I2 := I.next hp bnd.refl
  have c1 : ai_call G 133 217 [.ref X, .int a, .int b] (yH y (mH M s h0)) = some (.inl (some (.int v)), yH y (mH M s h0)) := wfy_B_widest (d := 126) (I.old hO) y X a b _ e1
  rw [pair_eq I.2.2.1] at c1
  have c2 : ai_call G 133 219 [.ref M, .int a, .int b] (mH M s (yH y h0)) = some (.inl (some (.int v)), mH M s' (yH y h0)) := wfm_widest (d := 130) (h0 := yH y h0) s a b _ e2
  exact ⟨v, y, s', c1, c2, I2, bnd.refl⟩
theorem q_trips (hO : hOld G h0) (hG : okW G) (hg : okG G) (I : IV G X M y s) (a : Int32) : ∃ v y' s', ai_call G 133 221 [.ref X, .int a] (mH M s (yH y h0)) = some (.inl (some (.int v)), mH M s (yH y' h0)) ∧ ai_call G 133 226 [.ref M, .int a] (mH M s (yH y' h0)) = some (.inl (some (.int v)), mH M s' (yH y' h0)) ∧ IV G X M y' s' ∧ bnd y y' := by
  obtain ⟨v, y', s', e1, e2, hp, hb⟩ := P_trips I.1 a
  have I2 := I.next hp hb
  have c1 : ai_call G 133 221 [.ref X, .int a] (yH y (mH M s h0)) = some (.inl (some (.int v)), yH y' (mH M s h0)) := wfy_B_trips (d := 96) (I.old hO) y X a _ e1
  rw [pair_eq I.2.2.1, pair_eq I2.2.2.1] at c1
  have c2 : ai_call G 133 226 [.ref M, .int a] (mH M s (yH y' h0)) = some (.inl (some (.int v)), mH M s' (yH y' h0)) := wfm_trips (d := 129) (h0 := yH y' h0) s a _ e2
  exact ⟨v, y', s', c1, c2, I2, hb⟩
theorem q_stowing (hO : hOld G h0) (hG : okW G) (hg : okG G) (I : IV G X M y s) : ∃ v y' s', ai_call G 133 229 [.ref X] (mH M s (yH y h0)) = some (.inl (some (.int v)), mH M s (yH y' h0)) ∧ ai_call G 133 232 [.ref M] (mH M s (yH y' h0)) = some (.inl (some (.int v)), mH M s' (yH y' h0)) ∧ IV G X M y' s' ∧ bnd y y' := by
  obtain ⟨v, y', s', e1, e2, hp, hb⟩ := P_stowing I.1
  have I2 := I.next hp hb
  have c1 : ai_call G 133 229 [.ref X] (yH y (mH M s h0)) = some (.inl (some (.int v)), yH y' (mH M s h0)) := wfy_B_stowing (d := 69) (I.old hO) y X _ e1
  rw [pair_eq I.2.2.1, pair_eq I2.2.2.1] at c1
  have c2 : ai_call G 133 232 [.ref M] (mH M s (yH y' h0)) = some (.inl (some (.int v)), mH M s' (yH y' h0)) := wfm_stowing (d := 129) (h0 := yH y' h0) s _ e2
  exact ⟨v, y', s', c1, c2, I2, hb⟩
theorem q_meet (hO : hOld G h0) (hG : okW G) (hg : okG G) (I : IV G X M y s) (a b : Int32) : ∃ v y' s', ai_call G 133 236 [.ref X, .int a, .int b] (mH M s (yH y h0)) = some (.inl (some (.int v)), mH M s (yH y' h0)) ∧ ai_call G 133 240 [.ref M, .int a, .int b] (mH M s (yH y' h0)) = some (.inl (some (.int v)), mH M s' (yH y' h0)) ∧ IV G X M y' s' ∧ bnd y y' := by
  obtain ⟨v, y', s', e1, e2, hp, hb⟩ := P_meet I.1 a b
  have I2 := I.next hp hb
  have c1 : ai_call G 133 236 [.ref X, .int a, .int b] (yH y (mH M s h0)) = some (.inl (some (.int v)), yH y' (mH M s h0)) := wfy_B_meet (d := 129) (I.old hO) y X a b _ e1
  rw [pair_eq I.2.2.1, pair_eq I2.2.2.1] at c1
  have c2 : ai_call G 133 240 [.ref M, .int a, .int b] (mH M s (yH y' h0)) = some (.inl (some (.int v)), mH M s' (yH y' h0)) := wfm_meet (d := 129) (h0 := yH y' h0) s a b _ e2
  exact ⟨v, y', s', c1, c2, I2, hb⟩
theorem q_mooring (hO : hOld G h0) (hG : okW G) (hg : okG G) (I : IV G X M y s) (a : Int32) : ∃ v y' s', ai_call G 133 243 [.ref X, .int a] (mH M s (yH y h0)) = some (.inl (some (.int v)), mH M s (yH y' h0)) ∧ ai_call G 133 246 [.ref M, .int a] (mH M s (yH y' h0)) = some (.inl (some (.int v)), mH M s' (yH y' h0)) ∧ IV G X M y' s' ∧ bnd y y' := by
  obtain ⟨v, y', s', e1, e2, hp, hb⟩ := P_mooring I.1 a
  have I2 := I.next hp hb
  have c1 : ai_call G 133 243 [.ref X, .int a] (yH y (mH M s h0)) = some (.inl (some (.int v)), yH y' (mH M s h0)) := wfy_B_mooring (d := 0) (I.old hO) y X a _ e1
  rw [pair_eq I.2.2.1, pair_eq I2.2.2.1] at c1
  have c2 : ai_call G 133 246 [.ref M, .int a] (mH M s (yH y' h0)) = some (.inl (some (.int v)), mH M s' (yH y' h0)) := wfm_mooring (d := 126) (h0 := yH y' h0) s a _ e2
  exact ⟨v, y', s', c1, c2, I2, hb⟩
theorem q_guests (hO : hOld G h0) (hG : okW G) (hg : okG G) (I : IV G X M y s) (a b : Int32) : ∃ v y' s', ai_call G 133 249 [.ref X, .int a, .int b] (mH M s (yH y h0)) = some (.inl (some (.int v)), mH M s (yH y' h0)) ∧ ai_call G 133 252 [.ref M, .int a, .int b] (mH M s (yH y' h0)) = some (.inl (some (.int v)), mH M s' (yH y' h0)) ∧ IV G X M y' s' ∧ bnd y y' := by
  obtain ⟨v, y', s', e1, e2, hp, hb⟩ := P_guests I.1 a b
  have I2 := I.next hp hb
  have c1 : ai_call G 133 249 [.ref X, .int a, .int b] (yH y (mH M s h0)) = some (.inl (some (.int v)), yH y' (mH M s h0)) := wfy_B_guests (d := 0) (I.old hO) y X a b _ e1
  rw [pair_eq I.2.2.1, pair_eq I2.2.2.1] at c1
  have c2 : ai_call G 133 252 [.ref M, .int a, .int b] (mH M s (yH y' h0)) = some (.inl (some (.int v)), mH M s' (yH y' h0)) := wfm_guests (d := 126) (h0 := yH y' h0) s a b _ e2
  exact ⟨v, y', s', c1, c2, I2, hb⟩
theorem q_singe (hO : hOld G h0) (hG : okW G) (hg : okG G) (I : IV G X M y s) (a : Int32) : ∃ v y' s', ai_call G 133 253 [.ref X, .int a] (mH M s (yH y h0)) = some (.inl (some (.int v)), mH M s (yH y' h0)) ∧ ai_call G 133 254 [.ref M, .int a] (mH M s (yH y' h0)) = some (.inl (some (.int v)), mH M s' (yH y' h0)) ∧ IV G X M y' s' ∧ bnd y y' := by
  obtain ⟨v, y', s', e1, e2, hp, hb⟩ := P_singe I.1 a
  have I2 := I.next hp hb
  have c1 : ai_call G 133 253 [.ref X, .int a] (yH y (mH M s h0)) = some (.inl (some (.int v)), yH y' (mH M s h0)) := wfy_B_singe (d := 2) (I.old hO) y X a _ e1
  rw [pair_eq I.2.2.1, pair_eq I2.2.2.1] at c1
  have c2 : ai_call G 133 254 [.ref M, .int a] (mH M s (yH y' h0)) = some (.inl (some (.int v)), mH M s' (yH y' h0)) := wfm_singe (d := 128) (h0 := yH y' h0) s a _ e2
  exact ⟨v, y', s', c1, c2, I2, hb⟩
theorem q_odds (hO : hOld G h0) (hG : okW G) (hg : okG G) (I : IV G X M y s) (a b c : Int32) : ∃ v y' s', ai_call G 133 257 [.ref X, .int a, .int b, .int c] (mH M s (yH y h0)) = some (.inl (some (.int v)), mH M s (yH y' h0)) ∧ ai_call G 133 260 [.ref M, .int a, .int b, .int c] (mH M s (yH y' h0)) = some (.inl (some (.int v)), mH M s' (yH y' h0)) ∧ IV G X M y' s' ∧ bnd y y' := by
  obtain ⟨v, y', s', e1, e2, hp, hb⟩ := P_odds I.1 a b c
  have I2 := I.next hp hb
  have c1 : ai_call G 133 257 [.ref X, .int a, .int b, .int c] (yH y (mH M s h0)) = some (.inl (some (.int v)), yH y' (mH M s h0)) := wfy_B_odds (d := 1) (I.old hO) y X a b c _ e1
  rw [pair_eq I.2.2.1, pair_eq I2.2.2.1] at c1
  have c2 : ai_call G 133 260 [.ref M, .int a, .int b, .int c] (mH M s (yH y' h0)) = some (.inl (some (.int v)), mH M s' (yH y' h0)) := wfm_odds (d := 127) (h0 := yH y' h0) s a b c _ e2
  exact ⟨v, y', s', c1, c2, I2, hb⟩
theorem q_over (hO : hOld G h0) (hG : okW G) (hg : okG G) (I : IV G X M y s) : ∃ v y' s', ai_call G 133 261 [.ref X] (mH M s (yH y h0)) = some (.inl (some (.int v)), mH M s (yH y' h0)) ∧ ai_call G 133 262 [.ref M] (mH M s (yH y' h0)) = some (.inl (some (.int v)), mH M s' (yH y' h0)) ∧ IV G X M y' s' ∧ bnd y y' := by
  obtain ⟨v, s', e1, e2, hp⟩ := P_over I.1
  have I2 := I.next hp bnd.refl
  have c1 : ai_call G 133 261 [.ref X] (yH y (mH M s h0)) = some (.inl (some (.int v)), yH y (mH M s h0)) := wfy_B_over (d := 130) (I.old hO) y X _ e1
  rw [pair_eq I.2.2.1] at c1
  have c2 : ai_call G 133 262 [.ref M] (mH M s (yH y h0)) = some (.inl (some (.int v)), mH M s' (yH y h0)) := wfm_over (d := 130) (h0 := yH y h0) s _ e2
  exact ⟨v, y, s', c1, c2, I2, bnd.refl⟩
theorem q_left (hO : hOld G h0) (hG : okW G) (hg : okG G) (I : IV G X M y s) : ∃ v y' s', ai_call G 133 263 [.ref X] (mH M s (yH y h0)) = some (.inl (some (.int v)), mH M s (yH y' h0)) ∧ ai_call G 133 264 [.ref M] (mH M s (yH y' h0)) = some (.inl (some (.int v)), mH M s' (yH y' h0)) ∧ IV G X M y' s' ∧ bnd y y' := by
  obtain ⟨v, s', e1, e2, hp⟩ := P_left I.1
  have I2 := I.next hp bnd.refl
  have c1 : ai_call G 133 263 [.ref X] (yH y (mH M s h0)) = some (.inl (some (.int v)), yH y (mH M s h0)) := wfy_B_left (d := 128) (I.old hO) y X _ e1
  rw [pair_eq I.2.2.1] at c1
  have c2 : ai_call G 133 264 [.ref M] (mH M s (yH y h0)) = some (.inl (some (.int v)), mH M s' (yH y h0)) := wfm_left (d := 130) (h0 := yH y h0) s _ e2
  exact ⟨v, y, s', c1, c2, I2, bnd.refl⟩
theorem q_pulled (hO : hOld G h0) (hG : okW G) (hg : okG G) (I : IV G X M y s) : ∃ v y' s', ai_call G 133 265 [.ref X] (mH M s (yH y h0)) = some (.inl (some (.int v)), mH M s (yH y' h0)) ∧ ai_call G 133 266 [.ref M] (mH M s (yH y' h0)) = some (.inl (some (.int v)), mH M s' (yH y' h0)) ∧ IV G X M y' s' ∧ bnd y y' := by
  obtain ⟨v, e1, e2, hp⟩ := P_pulled I.1
  have I2 := I.next hp bnd.refl
  have c1 : ai_call G 133 265 [.ref X] (yH y (mH M s h0)) = some (.inl (some (.int v)), yH y (mH M s h0)) := wfy_B_pulled (d := 130) (I.old hO) y X _ e1
  rw [pair_eq I.2.2.1] at c1
  have c2 : ai_call G 133 266 [.ref M] (mH M s (yH y h0)) = some (.inl (some (.int v)), mH M s (yH y h0)) := wfm_pulled (d := 131) (h0 := yH y h0) s _ e2
  exact ⟨v, y, s, c1, c2, I2, bnd.refl⟩
theorem q_hottest (hO : hOld G h0) (hG : okW G) (hg : okG G) (I : IV G X M y s) : ∃ v y' s', ai_call G 133 268 [.ref X] (mH M s (yH y h0)) = some (.inl (some (.int v)), mH M s (yH y' h0)) ∧ ai_call G 133 269 [.ref M] (mH M s (yH y' h0)) = some (.inl (some (.int v)), mH M s' (yH y' h0)) ∧ IV G X M y' s' ∧ bnd y y' := by
  obtain ⟨v, e1, e2, hp⟩ := P_hottest I.1
  have I2 := I.next hp bnd.refl
  have c1 : ai_call G 133 268 [.ref X] (yH y (mH M s h0)) = some (.inl (some (.int v)), yH y (mH M s h0)) := wfy_B_hottest (d := 128) (I.old hO) y X _ e1
  rw [pair_eq I.2.2.1] at c1
  have c2 : ai_call G 133 269 [.ref M] (mH M s (yH y h0)) = some (.inl (some (.int v)), mH M s (yH y h0)) := wfm_hottest (d := 132) (h0 := yH y h0) s _ e2
  exact ⟨v, y, s, c1, c2, I2, bnd.refl⟩
theorem q_law (hO : hOld G h0) (hG : okW G) (hg : okG G) (I : IV G X M y s) (a : Int32) : ∃ v y' s', ai_call G 133 270 [.ref X, .int a] (mH M s (yH y h0)) = some (.inl (some (.int v)), mH M s (yH y' h0)) ∧ ai_call G 133 271 [.ref M, .int a] (mH M s (yH y' h0)) = some (.inl (some (.int v)), mH M s' (yH y' h0)) ∧ IV G X M y' s' ∧ bnd y y' := by
  obtain ⟨v, s', e1, e2, hp⟩ := P_law I.1 a
  have I2 := I.next hp bnd.refl
  have c1 : ai_call G 133 270 [.ref X, .int a] (yH y (mH M s h0)) = some (.inl (some (.int v)), yH y (mH M s h0)) := wfy_B_law (d := 129) (I.old hO) y X a _ e1
  rw [pair_eq I.2.2.1] at c1
  have c2 : ai_call G 133 271 [.ref M, .int a] (mH M s (yH y h0)) = some (.inl (some (.int v)), mH M s' (yH y h0)) := wfm_law (d := 129) (h0 := yH y h0) s a _ e2
  exact ⟨v, y, s', c1, c2, I2, bnd.refl⟩
theorem q_lies (hO : hOld G h0) (hG : okW G) (hg : okG G) (I : IV G X M y s) (a : Int32) : ∃ v y' s', ai_call G 133 272 [.ref X, .int a] (mH M s (yH y h0)) = some (.inl (some (.int v)), mH M s (yH y' h0)) ∧ ai_call G 133 273 [.ref M, .int a] (mH M s (yH y' h0)) = some (.inl (some (.int v)), mH M s' (yH y' h0)) ∧ IV G X M y' s' ∧ bnd y y' := by
  obtain ⟨v, e1, e2, hp⟩ := P_lies I.1 a
  have I2 := I.next hp bnd.refl
  have c1 : ai_call G 133 272 [.ref X, .int a] (yH y (mH M s h0)) = some (.inl (some (.int v)), yH y (mH M s h0)) := wfy_B_lies (d := 131) (I.old hO) y X a _ e1
  rw [pair_eq I.2.2.1] at c1
  have c2 : ai_call G 133 273 [.ref M, .int a] (mH M s (yH y h0)) = some (.inl (some (.int v)), mH M s (yH y h0)) := wfm_lies (d := 131) (h0 := yH y h0) s a _ e2
  exact ⟨v, y, s, c1, c2, I2, bnd.refl⟩
theorem q_passed (hO : hOld G h0) (hG : okW G) (hg : okG G) (I : IV G X M y s) (a b c : Int32) (hc : c = 0 ∨ c = 1) : ∃ v y' s', ai_call G 133 276 [.ref X, .int a, .int b, .int c] (mH M s (yH y h0)) = some (.inl (some (.int v)), mH M s (yH y' h0)) ∧ ai_call G 133 278 [.ref M, .int a, .int b, .int c] (mH M s (yH y' h0)) = some (.inl (some (.int v)), mH M s' (yH y' h0)) ∧ IV G X M y' s' ∧ bnd y y' := by
  obtain ⟨v, y', s', e1, e2, hp, hb⟩ := P_passed hg I.1 a b c hc
  have I2 := I.next hp hb
  have c1 : ai_call G 133 276 [.ref X, .int a, .int b, .int c] (yH y (mH M s h0)) = some (.inl (some (.int v)), yH y' (mH M s h0)) := wfy_B_passed (d := 125) (I.old hO) y X a b c _ e1
  rw [pair_eq I.2.2.1, pair_eq I2.2.2.1] at c1
  have c2 : ai_call G 133 278 [.ref M, .int a, .int b, .int c] (mH M s (yH y' h0)) = some (.inl (some (.int v)), mH M s' (yH y' h0)) := wfm_passed (d := 130) (h0 := yH y' h0) s a b c _ e2
  exact ⟨v, y', s', c1, c2, I2, hb⟩
theorem q_felt (hO : hOld G h0) (hG : okW G) (hg : okG G) (I : IV G X M y s) (a b c : Int32) (hc : c = 0 ∨ c = 1) : ∃ v y' s', ai_call G 133 279 [.ref X, .int a, .int b, .int c] (mH M s (yH y h0)) = some (.inl (some (.int v)), mH M s (yH y' h0)) ∧ ai_call G 133 280 [.ref M, .int a, .int b, .int c] (mH M s (yH y' h0)) = some (.inl (some (.int v)), mH M s' (yH y' h0)) ∧ IV G X M y' s' ∧ bnd y y' := by
  obtain ⟨v, y', s', e1, e2, hp, hb⟩ := P_felt hg I.1 a b c hc
  have I2 := I.next hp hb
  have c1 : ai_call G 133 279 [.ref X, .int a, .int b, .int c] (yH y (mH M s h0)) = some (.inl (some (.int v)), yH y' (mH M s h0)) := wfy_B_felt (d := 125) (I.old hO) y X a b c _ e1
  rw [pair_eq I.2.2.1, pair_eq I2.2.2.1] at c1
  have c2 : ai_call G 133 280 [.ref M, .int a, .int b, .int c] (mH M s (yH y' h0)) = some (.inl (some (.int v)), mH M s' (yH y' h0)) := wfm_felt (d := 130) (h0 := yH y' h0) s a b c _ e2
  exact ⟨v, y', s', c1, c2, I2, hb⟩
theorem q_untell (hO : hOld G h0) (hG : okW G) (hg : okG G) (I : IV G X M y s) (a : Int32) : ∃ v y' s', ai_call G 133 281 [.ref X, .int a] (mH M s (yH y h0)) = some (.inl (some (.int v)), mH M s (yH y' h0)) ∧ ai_call G 133 282 [.ref M, .int a] (mH M s (yH y' h0)) = some (.inl (some (.int v)), mH M s' (yH y' h0)) ∧ IV G X M y' s' ∧ bnd y y' := by
  obtain ⟨v, y', s', e1, e2, hp, hb⟩ := P_untell I.1 a
  have I2 := I.next hp hb
  have c1 : ai_call G 133 281 [.ref X, .int a] (yH y (mH M s h0)) = some (.inl (some (.int v)), yH y' (mH M s h0)) := wfy_B_untell (d := 129) (I.old hO) y X a _ e1
  rw [pair_eq I.2.2.1, pair_eq I2.2.2.1] at c1
  have c2 : ai_call G 133 282 [.ref M, .int a] (mH M s (yH y' h0)) = some (.inl (some (.int v)), mH M s' (yH y' h0)) := wfm_untell (d := 131) (h0 := yH y' h0) s a _ e2
  exact ⟨v, y', s', c1, c2, I2, hb⟩
theorem q_later (hO : hOld G h0) (hG : okW G) (hg : okG G) (I : IV G X M y s) (a : Int32) : ∃ v y' s', ai_call G 133 283 [.ref X, .int a] (mH M s (yH y h0)) = some (.inl (some (.int v)), mH M s (yH y' h0)) ∧ ai_call G 133 284 [.ref M, .int a] (mH M s (yH y' h0)) = some (.inl (some (.int v)), mH M s' (yH y' h0)) ∧ IV G X M y' s' ∧ bnd y y' := by
  obtain ⟨v, y', s', e1, e2, hp, hb⟩ := P_later I.1 a
  have I2 := I.next hp hb
  have c1 : ai_call G 133 283 [.ref X, .int a] (yH y (mH M s h0)) = some (.inl (some (.int v)), yH y' (mH M s h0)) := wfy_B_later (d := 132) (I.old hO) y X a _ e1
  rw [pair_eq I.2.2.1, pair_eq I2.2.2.1] at c1
  have c2 : ai_call G 133 284 [.ref M, .int a] (mH M s (yH y' h0)) = some (.inl (some (.int v)), mH M s' (yH y' h0)) := wfm_later (d := 132) (h0 := yH y' h0) s a _ e2
  exact ⟨v, y', s', c1, c2, I2, hb⟩
theorem q_fits (hO : hOld G h0) (hG : okW G) (hg : okG G) (I : IV G X M y s) (a : Int32) : ∃ v y' s', ai_call G 133 288 [.ref X, .int a] (mH M s (yH y h0)) = some (.inl (some (.int v)), mH M s (yH y' h0)) ∧ ai_call G 133 291 [.ref M, .int a] (mH M s (yH y' h0)) = some (.inl (some (.int v)), mH M s' (yH y' h0)) ∧ IV G X M y' s' ∧ bnd y y' := by
  obtain ⟨v, y', s', e1, e2, hp, hb⟩ := P_fits I.1 a
  have I2 := I.next hp hb
  have c1 : ai_call G 133 288 [.ref X, .int a] (yH y (mH M s h0)) = some (.inl (some (.int v)), yH y' (mH M s h0)) := wfy_B_fits (d := 1) (I.old hO) y X a _ e1
  rw [pair_eq I.2.2.1, pair_eq I2.2.2.1] at c1
  have c2 : ai_call G 133 291 [.ref M, .int a] (mH M s (yH y' h0)) = some (.inl (some (.int v)), mH M s' (yH y' h0)) := wfm_fits (d := 127) (h0 := yH y' h0) s a _ e2
  exact ⟨v, y', s', c1, c2, I2, hb⟩
theorem q_sure (hO : hOld G h0) (hG : okW G) (hg : okG G) (I : IV G X M y s) (a b : Int32) : ∃ v y' s', ai_call G 133 292 [.ref X, .int a, .int b] (mH M s (yH y h0)) = some (.inl (some (.int v)), mH M s (yH y' h0)) ∧ ai_call G 133 293 [.ref M, .int a, .int b] (mH M s (yH y' h0)) = some (.inl (some (.int v)), mH M s' (yH y' h0)) ∧ IV G X M y' s' ∧ bnd y y' := by
  obtain ⟨v, y', s', e1, e2, hp, hb⟩ := P_sure I.1 a b
  have I2 := I.next hp hb
  have c1 : ai_call G 133 292 [.ref X, .int a, .int b] (yH y (mH M s h0)) = some (.inl (some (.int v)), yH y' (mH M s h0)) := wfy_B_sure (d := 1) (I.old hO) y X a b _ e1
  rw [pair_eq I.2.2.1, pair_eq I2.2.2.1] at c1
  have c2 : ai_call G 133 293 [.ref M, .int a, .int b] (mH M s (yH y' h0)) = some (.inl (some (.int v)), mH M s' (yH y' h0)) := wfm_sure (d := 127) (h0 := yH y' h0) s a b _ e2
  exact ⟨v, y', s', c1, c2, I2, hb⟩
theorem q_ask (hO : hOld G h0) (hG : okW G) (hg : okG G) (I : IV G X M y s) (a b : Int32) : ∃ v y' s', ai_call G 133 295 [.ref X, .int a, .int b] (mH M s (yH y h0)) = some (.inl (some (.int v)), mH M s (yH y' h0)) ∧ ai_call G 133 297 [.ref M, .int a, .int b] (mH M s (yH y' h0)) = some (.inl (some (.int v)), mH M s' (yH y' h0)) ∧ IV G X M y' s' ∧ bnd y y' := by
  obtain ⟨v, y', s', e1, e2, hp, hb⟩ := P_ask I.1 a b
  have I2 := I.next hp hb
  have c1 : ai_call G 133 295 [.ref X, .int a, .int b] (yH y (mH M s h0)) = some (.inl (some (.int v)), yH y' (mH M s h0)) := wfy_B_ask (d := 1) (I.old hO) y X a b _ e1
  rw [pair_eq I.2.2.1, pair_eq I2.2.2.1] at c1
  have c2 : ai_call G 133 297 [.ref M, .int a, .int b] (mH M s (yH y' h0)) = some (.inl (some (.int v)), mH M s' (yH y' h0)) := wfm_ask (d := 127) (h0 := yH y' h0) s a b _ e2
  exact ⟨v, y', s', c1, c2, I2, hb⟩
theorem q_image (hO : hOld G h0) (hG : okW G) (hg : okG G) (I : IV G X M y s) (a : Int32) : ∃ v y' s', ai_call G 133 298 [.ref X, .int a] (mH M s (yH y h0)) = some (.inl (some (.int v)), mH M s (yH y' h0)) ∧ ai_call G 133 300 [.ref M, .int a] (mH M s (yH y' h0)) = some (.inl (some (.int v)), mH M s' (yH y' h0)) ∧ IV G X M y' s' ∧ bnd y y' := by
  obtain ⟨v, y', s', e1, e2, hp, hb⟩ := P_image I.1 a
  have I2 := I.next hp hb
  have c1 : ai_call G 133 298 [.ref X, .int a] (yH y (mH M s h0)) = some (.inl (some (.int v)), yH y' (mH M s h0)) := wfy_B_image (d := 129) (I.old hO) y X a _ e1
  rw [pair_eq I.2.2.1, pair_eq I2.2.2.1] at c1
  have c2 : ai_call G 133 300 [.ref M, .int a] (mH M s (yH y' h0)) = some (.inl (some (.int v)), mH M s' (yH y' h0)) := wfm_image (d := 129) (h0 := yH y' h0) s a _ e2
  exact ⟨v, y', s', c1, c2, I2, hb⟩
theorem q_back (hO : hOld G h0) (hG : okW G) (hg : okG G) (I : IV G X M y s) (a : Int32) : ∃ v y' s', ai_call G 133 301 [.ref X, .int a] (mH M s (yH y h0)) = some (.inl (some (.int v)), mH M s (yH y' h0)) ∧ ai_call G 133 302 [.ref M, .int a] (mH M s (yH y' h0)) = some (.inl (some (.int v)), mH M s' (yH y' h0)) ∧ IV G X M y' s' ∧ bnd y y' := by
  obtain ⟨v, y', s', e1, e2, hp, hb⟩ := P_back I.1 a
  have I2 := I.next hp hb
  have c1 : ai_call G 133 301 [.ref X, .int a] (yH y (mH M s h0)) = some (.inl (some (.int v)), yH y' (mH M s h0)) := wfy_B_back (d := 129) (I.old hO) y X a _ e1
  rw [pair_eq I.2.2.1, pair_eq I2.2.2.1] at c1
  have c2 : ai_call G 133 302 [.ref M, .int a] (mH M s (yH y' h0)) = some (.inl (some (.int v)), mH M s' (yH y' h0)) := wfm_back (d := 129) (h0 := yH y' h0) s a _ e2
  exact ⟨v, y', s', c1, c2, I2, hb⟩
theorem q_about (hO : hOld G h0) (hG : okW G) (hg : okG G) (I : IV G X M y s) (a : Int32) : ∃ v y' s', ai_call G 133 303 [.ref X, .int a] (mH M s (yH y h0)) = some (.inl (some (.int v)), mH M s (yH y' h0)) ∧ ai_call G 133 304 [.ref M, .int a] (mH M s (yH y' h0)) = some (.inl (some (.int v)), mH M s' (yH y' h0)) ∧ IV G X M y' s' ∧ bnd y y' := by
  obtain ⟨v, e1, e2, hp⟩ := P_about I.1 a
  have I2 := I.next hp bnd.refl
  have c1 : ai_call G 133 303 [.ref X, .int a] (yH y (mH M s h0)) = some (.inl (some (.int v)), yH y (mH M s h0)) := wfy_B_about (d := 130) (I.old hO) y X a _ e1
  rw [pair_eq I.2.2.1] at c1
  have c2 : ai_call G 133 304 [.ref M, .int a] (mH M s (yH y h0)) = some (.inl (some (.int v)), mH M s (yH y h0)) := wfm_about (d := 132) (h0 := yH y h0) s a _ e2
  exact ⟨v, y, s, c1, c2, I2, bnd.refl⟩
end P1

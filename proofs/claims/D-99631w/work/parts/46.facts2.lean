/-! the classes, calls and other sites (printed by tools/print_facts.py) -/
set_option maxRecDepth 100000
def ai_CLK (c : Nat) (q : vw_C) : Prop := ai_cl[c]? = some q ∧ q.2.1 = ai_T c ∧ (∀ k, k < q.2.2 → parseFieldDescriptor (q.2.1 k).2.2.1 = some (ai_ty c k)) ∧ (∀ w ∈ u_ws q.1 q.2.1 q.2.2, w ∈ lw_all) ∧ (∀ a, a < q.2.2 → ∀ b, b < q.2.2 → a ≠ b → (q.2.1 a).2.1 ≠ (q.2.1 b).2.1 ∨ (q.2.1 a).1 ≠ (q.2.1 b).1) ∧ ai_cn c = q.1 ∧ Cond.initialized q.1 ∈ lw_all ∧ Cond.instantiable q.1 (ai_nf c) ∈ lw_all ∧ Cond.castable q.1 "java/lang/Object" ∈ ai_nw
theorem in_TW : ∀ w ∈ u_ws RX3 ai_TW 2, w ∈ lw_all := lw_in (u_ws RX3 ai_TW 2) [380, 382] (by decide +kernel) (by decide +kernel)
theorem ty_TW : ∀ k, k < 2 → parseFieldDescriptor (ai_TW k).2.2.1 = some (ai_tW k) := by decide +kernel
theorem ai_clk0 : ai_CLK 0 (RX0, TX0, 29) := ⟨rfl, rfl, tyX0_ok, in_X0, by decide +kernel, rfl, q129, q165, nw2241⟩
theorem ai_clk1 : ai_CLK 1 (RX1, TX1, 17) := ⟨rfl, rfl, tyX1_ok, in_X1, by decide +kernel, rfl, q130, q173, nw2242⟩
theorem ai_clk2 : ai_CLK 2 (RX2, TX2, 7) := ⟨rfl, rfl, tyX2_ok, in_X2, by decide +kernel, rfl, q134, q286, nw2244⟩
theorem ai_clk3 : ai_CLK 3 (RX3, ai_TW, 2) := ⟨rfl, rfl, ty_TW, in_TW, by decide +kernel, rfl, q137, q329, nw2245⟩
theorem ai_clk4 : ai_CLK 4 (RX5, TX5, 4) := ⟨rfl, rfl, tyX5_ok, in_X5, by decide +kernel, rfl, q139, q396, nw2246⟩
theorem ai_clk5 : ai_CLK 5 (RX6, TX6, 5) := ⟨rfl, rfl, tyX6_ok, in_X6, by decide +kernel, rfl, q140, q420, nw2247⟩
theorem ai_clk6 : ai_CLK 6 (RX7, TX7, 1) := ⟨rfl, rfl, tyX7_ok, in_X7, by decide +kernel, rfl, q141, q438, nw2239⟩
theorem ai_clk7 : ai_CLK 7 (RX8, TX8, 82) := ⟨rfl, rfl, tyX8_ok, in_X8, by decide +kernel, rfl, q144, q1473, nw2248⟩
theorem ai_clk8 : ai_CLK 8 (RX9, TX9, 11) := ⟨rfl, rfl, tyX9_ok, in_X9, by decide +kernel, rfl, q145, q590, nw2249⟩
theorem ai_clk9 : ai_CLK 9 (RX11, TX11, 4) := ⟨rfl, rfl, tyX11_ok, in_X11, by decide +kernel, rfl, q150, q774, nw2250⟩
theorem ai_clk10 : ai_CLK 10 (RX12, TX12, 2) := ⟨rfl, rfl, tyX12_ok, in_X12, by decide +kernel, rfl, q156, q936, nw2252⟩
theorem ai_clk11 : ai_CLK 11 (RX14, TX14, 1) := ⟨rfl, rfl, tyX14_ok, in_X14, by decide +kernel, rfl, q158, q966, nw2253⟩
theorem ai_clk12 : ai_CLK 12 (RX15, TX15, 1) := ⟨rfl, rfl, tyX15_ok, in_X15, by decide +kernel, rfl, q159, q997, nw2254⟩
theorem ai_clk13 : ai_CLK 13 (RX16, TX16, 1) := ⟨rfl, rfl, tyX16_ok, in_X16, by decide +kernel, rfl, q160, q1007, nw2255⟩
theorem ai_clk14 : ai_CLK 14 (RX17, TX17, 3) := ⟨rfl, rfl, tyX17_ok, in_X17, by decide +kernel, rfl, q161, q1017, nw2256⟩
theorem ai_clk15 : ai_CLK 15 (RX18, TX18, 6) := ⟨rfl, rfl, tyX18_ok, in_X18, by decide +kernel, rfl, q163, q1385, nw2257⟩
theorem ai_clk16 : ai_CLK 16 (RJ2, TJ2, 3) := ⟨rfl, rfl, tyJ2_ok, in_J2, by decide +kernel, rfl, q133, q179, nw2243⟩
theorem ai_clk17 : ai_CLK 17 (RJ10, TJ10, 4) := ⟨rfl, rfl, tyJ10_ok, in_J10, by decide +kernel, rfl, q151, q790, nw2251⟩
theorem ai_clk (c : Nat) (h : c < ai_ncl) : ∃ q, ai_CLK c q := by
  match c, h with
  | 0, _ => exact ⟨_, ai_clk0⟩
  | 1, _ => exact ⟨_, ai_clk1⟩
  | 2, _ => exact ⟨_, ai_clk2⟩
  | 3, _ => exact ⟨_, ai_clk3⟩
  | 4, _ => exact ⟨_, ai_clk4⟩
  | 5, _ => exact ⟨_, ai_clk5⟩
  | 6, _ => exact ⟨_, ai_clk6⟩
  | 7, _ => exact ⟨_, ai_clk7⟩
  | 8, _ => exact ⟨_, ai_clk8⟩
  | 9, _ => exact ⟨_, ai_clk9⟩
  | 10, _ => exact ⟨_, ai_clk10⟩
  | 11, _ => exact ⟨_, ai_clk11⟩
  | 12, _ => exact ⟨_, ai_clk12⟩
  | 13, _ => exact ⟨_, ai_clk13⟩
  | 14, _ => exact ⟨_, ai_clk14⟩
  | 15, _ => exact ⟨_, ai_clk15⟩
  | 16, _ => exact ⟨_, ai_clk16⟩
  | 17, _ => exact ⟨_, ai_clk17⟩
  | c + 18, h => exact absurd h (by unfold ai_ncl; omega)
theorem ai_getD_mem {α : Type} {l : List α} {j : Nat} {d : α} (h : j < l.length) : l.getD j d ∈ l := by
  rw [List.getD_eq_getElem?_getD, List.getElem?_eq_getElem h]
  exact List.getElem_mem h
theorem ai_mt0_x : ∀ (j : Nat), j < 40 → 0 < j → (ai_mt0.getD j (x, code, 4, some .boolean, 0, [])).1 ≠ x := by decide +kernel
theorem ai_mt1_x : ∀ M ∈ ai_mt1, M.1 ≠ x := by decide +kernel
theorem ai_mt2_x : ∀ M ∈ ai_mt2, M.1 ≠ x := by decide +kernel
theorem ai_mt3_x : ∀ M ∈ ai_mt3, M.1 ≠ x := by decide +kernel
theorem ai_mt4_x : ∀ M ∈ ai_mt4, M.1 ≠ x := by decide +kernel
theorem ai_mt5_x : ∀ M ∈ ai_mt5, M.1 ≠ x := by decide +kernel
theorem ai_mt6_x : ∀ M ∈ ai_mt6, M.1 ≠ x := by decide +kernel
theorem ai_mt7_x : ∀ M ∈ ai_mt7, M.1 ≠ x := by decide +kernel
theorem ai_mk (k : Nat) (h0 : 0 < k) (h : k < 305) : ai_MOK (ai_m k) := by
  unfold ai_m
  have hm : k % 40 < 40 := Nat.mod_lt _ (by decide)
  have hk : k / 40 < 8 := by omega
  have hd : k = 40 * (k / 40) + k % 40 := (Nat.div_add_mod k 40).symm
  generalize k / 40 = i at hk hd ⊢
  generalize k % 40 = j at hm hd ⊢
  match i, hk with
  | 0, _ =>
    have hj : 0 < j := by omega
    have hl : j < ai_mt0.length := hm
    exact ai_mt_ok0 _ (ai_getD_mem hl) (ai_mt0_x j hm hj)
  | 1, _ =>
    have hl : j < ai_mt1.length := by show j < 40; omega
    exact ai_mt_ok1 _ (ai_getD_mem hl) (ai_mt1_x _ (ai_getD_mem hl))
  | 2, _ =>
    have hl : j < ai_mt2.length := by show j < 40; omega
    exact ai_mt_ok2 _ (ai_getD_mem hl) (ai_mt2_x _ (ai_getD_mem hl))
  | 3, _ =>
    have hl : j < ai_mt3.length := by show j < 40; omega
    exact ai_mt_ok3 _ (ai_getD_mem hl) (ai_mt3_x _ (ai_getD_mem hl))
  | 4, _ =>
    have hl : j < ai_mt4.length := by show j < 40; omega
    exact ai_mt_ok4 _ (ai_getD_mem hl) (ai_mt4_x _ (ai_getD_mem hl))
  | 5, _ =>
    have hl : j < ai_mt5.length := by show j < 40; omega
    exact ai_mt_ok5 _ (ai_getD_mem hl) (ai_mt5_x _ (ai_getD_mem hl))
  | 6, _ =>
    have hl : j < ai_mt6.length := by show j < 40; omega
    exact ai_mt_ok6 _ (ai_getD_mem hl) (ai_mt6_x _ (ai_getD_mem hl))
  | 7, _ =>
    have hl : j < ai_mt7.length := by show j < 25; omega
    exact ai_mt_ok7 _ (ai_getD_mem hl) (ai_mt7_x _ (ai_getD_mem hl))
  | i + 8, hk => exact absurd hk (by omega)

/-! WALKS of the model: the interpreter does what the functions say (printed by tools/decm.py) -/
set_option maxRecDepth 100000
abbrev Pfm_exchange_b2 (G : ai_G) (d M : Nat) (h0 : ai_H) (v1 : Int32) : (Int32 × mS) ⊕ mS → Option ai_R → Prop := Sum.elim (fun (q : Int32 × mS) run => ∃ J : JV, run = ai_run G d 187 2 [some (.ref M), some (.int v1), some (.int q.1), J.1] [] (mH M q.2 h0)) (fun (q : mS) run => ∃ J : JV × JV × JV × JV, run = ai_run G d 187 44 [J.1.1, J.2.1.1, J.2.2.1.1, J.2.2.2.1] [] (mH M q h0))
theorem Bfm_exchange_b2 {G : ai_G} {d M : Nat} {h0 : ai_H} (v1 : Int32) (b0 : Int32) (b1 : mS) (J : JV) : Tj G d 187 (Pfm_exchange_b2 G d M h0 v1) (some (.inl (b0, b1))) 2 [some (.ref M), some (.int v1), some (.int b0), J.1] [] (mH M b1 h0) := tq_back J rfl rfl
theorem Efm_exchange_b2 {G : ai_G} {d M : Nat} {h0 : ai_H} (v1 : Int32) (b0 : mS) (J : JV × JV × JV × JV) : Tj G d 187 (Pfm_exchange_b2 G d M h0 v1) (some (.inr b0)) 44 [J.1.1, J.2.1.1, J.2.2.1.1, J.2.2.2.1] [] (mH M b0 h0) := tq_exit J rfl rfl
theorem wfm_exchange_b2 {G : ai_G} {d M : Nat} {h0 : ai_H} (v1 : Int32) (q : Int32 × mS) (J : JV) : Tj G d 187 (Pfm_exchange_b2 G d M h0 v1) (fm_exchange_b2 v1 q) 2 [some (.ref M), some (.int v1), some (.int q.1), J.1] [] (mH M q.2 h0) := by
  unfold fm_exchange_b2
  refine tq_iload_n dX8_exchange_2 rfl ?_
  refine tq_bipush (v := 28) dX8_exchange_3 (by decide) ?_
  refine tq_icmp_ge dX8_exchange_5 rfl ?_ ?_
  · exact Efm_exchange_b2 _ _ (⟨some (.ref M), rfl⟩, ⟨some (.int v1), rfl⟩, ⟨some (.int q.1), rfl⟩, J)
  · refine tq_aload_n dX8_exchange_8 rfl ?_
    refine tm_ga (j := 24) dX8_exchange_9 rfl rfl ?_
    refine tq_iload_n dX8_exchange_12 rfl ?_
    refine tq_iload_n dX8_exchange_13 rfl ?_
    refine tq_iadd dX8_exchange_14 ?_
    refine tm_ild dX8_exchange_15 rfl (fun x15 => ?_)
    refine tq_istore_n (L' := [_, _, _, _]) dX8_exchange_16 (Nat.le_of_ble_eq_true rfl) rfl ?_
    refine tq_aload_n dX8_exchange_17 rfl ?_
    refine tm_ga (j := 24) dX8_exchange_18 rfl rfl ?_
    refine tq_iload_n dX8_exchange_21 rfl ?_
    refine tq_iload_n dX8_exchange_22 rfl ?_
    refine tq_iadd dX8_exchange_23 ?_
    refine tq_aload_n dX8_exchange_24 rfl ?_
    refine tm_ga (j := 22) dX8_exchange_25 rfl rfl ?_
    refine tq_iload_n dX8_exchange_28 rfl ?_
    refine tm_ild dX8_exchange_29 rfl (fun x29 => ?_)
    refine tm_ist dX8_exchange_30 rfl (fun s30 => ?_)
    refine tq_aload_n dX8_exchange_31 rfl ?_
    refine tm_ga (j := 22) dX8_exchange_32 rfl rfl ?_
    refine tq_iload_n dX8_exchange_35 rfl ?_
    refine tq_iload_n dX8_exchange_36 rfl ?_
    refine tm_ist dX8_exchange_37 rfl (fun s37 => ?_)
    refine tq_iinc (v := (q.1 + 1)) (L' := [_, _, _, _]) dX8_exchange_38 rfl (Nat.le_of_ble_eq_true rfl) rfl rfl ?_
    refine tq_goto dX8_exchange_41 rfl ?_
    exact Bfm_exchange_b2 _ _ _ ⟨some (.int x15), rfl⟩
theorem Sfm_exchange_b2 {G : ai_G} {d M : Nat} {h0 : ai_H} {α : Type} {P : α → Option ai_R → Prop} (v1 : Int32) (b0 : Int32) (b1 : mS) (J : JV) {r : mS → Option α} (kk : ∀ (q : mS) (J : JV × JV × JV × JV), Tj G d 187 P (r q) 44 [J.1.1, J.2.1.1, J.2.2.1.1, J.2.2.2.1] [] (mH M q h0)) : Tj G d 187 P ((lp (fm_exchange_b2 v1) (b0, b1)).bind r) 2 [some (.ref M), some (.int v1), some (.int b0), J.1] [] (mH M b1 h0) := tq_lp1 (J := J) (fun q J => wfm_exchange_b2 v1 q J) rfl rfl kk
theorem wfm_exchange {G : ai_G} {d M : Nat} {h0 : ai_H} (s : mS) (v1 : Int32) : ∀ r, fm_exchange s v1 = some r → (PmV M h0) r (ai_call G (d + 1) 187 [.ref M, .int v1] (mH M s h0)) := by
  refine tq_meth (P := (PmV M h0)) (d := d) (Nat.le_of_ble_eq_true rfl) ?_
  show Tj G d 187 (PmV M h0) (fm_exchange s v1) 0 [some (.ref M), some (.int v1), none, none] [] (mH M s h0)
  unfold fm_exchange
  refine tq_iconst (v := 0) dX8_exchange_0 (by decide) ?_
  refine tq_istore_n (L' := [_, _, _, _]) dX8_exchange_1 (Nat.le_of_ble_eq_true rfl) rfl ?_
  refine Sfm_exchange_b2 _ _ _ ⟨none, rfl⟩ (fun q2 J2 => ?_)
  exact tq_return dX8_exchange_44 rfl rfl
theorem wfm_undo {G : ai_G} {d M : Nat} {h0 : ai_H} (s : mS) : ∀ r, fm_undo s = some r → (PmI M h0) r (ai_call G (d + 2) 188 [.ref M] (mH M s h0)) := by
  refine tq_meth (P := (PmI M h0)) (d := (d + 1)) (Nat.le_of_ble_eq_true rfl) ?_
  show Tj G (d + 1) 188 (PmI M h0) (fm_undo s) 0 [some (.ref M)] [] (mH M s h0)
  unfold fm_undo
  refine tq_aload_n dX8_undo_0 rfl ?_
  refine tm_gi (k9 := 57) dX8_undo_1 rfl rfl ?_
  refine tq_if_ne dX8_undo_4 rfl ?_ ?_
  · refine tq_aload_n dX8_undo_9 rfl ?_
    refine tq_dup dX8_undo_10 rfl ?_
    refine tm_gi (k9 := 57) dX8_undo_11 rfl rfl ?_
    refine tq_iconst (v := 1) dX8_undo_14 (by decide) ?_
    refine tq_isub dX8_undo_15 ?_
    refine tm_pi dX8_undo_16 rfl rfl (fun s16 => ?_)
    refine tq_aload_n dX8_undo_19 rfl ?_
    refine tq_dup dX8_undo_20 rfl ?_
    refine tm_gi (k9 := 58) dX8_undo_21 rfl rfl ?_
    refine tq_iconst (v := 1) dX8_undo_24 (by decide) ?_
    refine tq_iadd dX8_undo_25 ?_
    refine tm_pi dX8_undo_26 rfl rfl (fun s26 => ?_)
    refine tq_aload_n dX8_undo_29 rfl ?_
    refine tq_bipush (v := 28) dX8_undo_30 (by decide) ?_
    refine tq_aload_n dX8_undo_32 rfl ?_
    refine tm_gi (k9 := 57) dX8_undo_33 rfl rfl ?_
    refine tq_imul dX8_undo_36 ?_
    refine tm_c1_V dX8_undo_37 rfl rfl rfl (Nat.le_of_ble_eq_true rfl) (wfm_exchange (d := d) _ _) (fun p37 => ?_)
    refine tq_iconst (v := 1) dX8_undo_40 (by decide) ?_
    exact tq_ireturn dX8_undo_41 (by decide) rfl
  · refine tq_iconst (v := 0) dX8_undo_7 (by decide) ?_
    exact tq_ireturn dX8_undo_8 (by decide) rfl
theorem wfm_redo {G : ai_G} {d M : Nat} {h0 : ai_H} (s : mS) : ∀ r, fm_redo s = some r → (PmI M h0) r (ai_call G (d + 2) 190 [.ref M] (mH M s h0)) := by
  refine tq_meth (P := (PmI M h0)) (d := (d + 1)) (Nat.le_of_ble_eq_true rfl) ?_
  show Tj G (d + 1) 190 (PmI M h0) (fm_redo s) 0 [some (.ref M)] [] (mH M s h0)
  unfold fm_redo
  refine tq_aload_n dX8_redo_0 rfl ?_
  refine tm_gi (k9 := 58) dX8_redo_1 rfl rfl ?_
  refine tq_if_ne dX8_redo_4 rfl ?_ ?_
  · refine tq_aload_n dX8_redo_9 rfl ?_
    refine tq_bipush (v := 28) dX8_redo_10 (by decide) ?_
    refine tq_aload_n dX8_redo_12 rfl ?_
    refine tm_gi (k9 := 57) dX8_redo_13 rfl rfl ?_
    refine tq_imul dX8_redo_16 ?_
    refine tm_c1_V dX8_redo_17 rfl rfl rfl (Nat.le_of_ble_eq_true rfl) (wfm_exchange (d := d) _ _) (fun p17 => ?_)
    refine tq_aload_n dX8_redo_20 rfl ?_
    refine tq_dup dX8_redo_21 rfl ?_
    refine tm_gi (k9 := 57) dX8_redo_22 rfl rfl ?_
    refine tq_iconst (v := 1) dX8_redo_25 (by decide) ?_
    refine tq_iadd dX8_redo_26 ?_
    refine tm_pi dX8_redo_27 rfl rfl (fun s27 => ?_)
    refine tq_aload_n dX8_redo_30 rfl ?_
    refine tq_dup dX8_redo_31 rfl ?_
    refine tm_gi (k9 := 58) dX8_redo_32 rfl rfl ?_
    refine tq_iconst (v := 1) dX8_redo_35 (by decide) ?_
    refine tq_isub dX8_redo_36 ?_
    refine tm_pi dX8_redo_37 rfl rfl (fun s37 => ?_)
    refine tq_iconst (v := 1) dX8_redo_40 (by decide) ?_
    exact tq_ireturn dX8_redo_41 (by decide) rfl
  · refine tq_iconst (v := 0) dX8_redo_7 (by decide) ?_
    exact tq_ireturn dX8_redo_8 (by decide) rfl
theorem wfm_leftOf {G : ai_G} {d M : Nat} {h0 : ai_H} (s : mS) (v1 : Int32) : ∀ r, fm_leftOf s v1 = some r → (Pi (mH M s h0)) r (ai_call G (d + 1) 197 [.ref M, .int v1] (mH M s h0)) := by
  refine tq_meth (P := (Pi (mH M s h0))) (d := d) (Nat.le_of_ble_eq_true rfl) ?_
  show Tj G d 197 (Pi (mH M s h0)) (fm_leftOf s v1) 0 [some (.ref M), some (.int v1)] [] (mH M s h0)
  unfold fm_leftOf
  refine tq_aload_n dX8_leftOf_0 rfl ?_
  refine tm_gi (k9 := 47) dX8_leftOf_1 rfl rfl ?_
  refine tq_aload_n dX8_leftOf_4 rfl ?_
  refine tm_ga (j := 22) dX8_leftOf_5 rfl rfl ?_
  refine tq_iconst (v := 4) dX8_leftOf_8 (by decide) ?_
  refine tq_iload_n dX8_leftOf_9 rfl ?_
  refine tq_iadd dX8_leftOf_10 ?_
  refine tm_ild dX8_leftOf_11 rfl (fun x11 => ?_)
  refine tq_isub dX8_leftOf_12 ?_
  exact tq_ireturn dX8_leftOf_13 rfl rfl
abbrev Pfm_power_b4 (G : ai_G) (d : Nat) (h : ai_H) (v0 : Int32) (v1 : Int32) : (Int32 × Int32) ⊕ Int32 → Option ai_R → Prop := Sum.elim (fun (q : Int32 × Int32) run => ∃ J : Unit, run = ai_run G d 198 4 [some (.int v0), some (.int v1), some (.int q.1), some (.int q.2)] [] h) (fun (q : Int32) run => ∃ J : JV × JV × JV, run = ai_run G d 198 19 [J.1.1, J.2.1.1, some (.int q), J.2.2.1] [] h)
theorem Bfm_power_b4 {G : ai_G} {d : Nat} {h : ai_H} (v0 : Int32) (v1 : Int32) (b0 : Int32) (b1 : Int32) (J : Unit) : Tj G d 198 (Pfm_power_b4 G d h v0 v1) (some (.inl (b0, b1))) 4 [some (.int v0), some (.int v1), some (.int b0), some (.int b1)] [] h := tq_back J rfl rfl
theorem Efm_power_b4 {G : ai_G} {d : Nat} {h : ai_H} (v0 : Int32) (v1 : Int32) (b0 : Int32) (J : JV × JV × JV) : Tj G d 198 (Pfm_power_b4 G d h v0 v1) (some (.inr b0)) 19 [J.1.1, J.2.1.1, some (.int b0), J.2.2.1] [] h := tq_exit J rfl rfl
theorem wfm_power_b4 {G : ai_G} {d : Nat} {h : ai_H} (v0 : Int32) (v1 : Int32) (q : Int32 × Int32) (J : Unit) : Tj G d 198 (Pfm_power_b4 G d h v0 v1) (fm_power_b4 v0 v1 q) 4 [some (.int v0), some (.int v1), some (.int q.1), some (.int q.2)] [] h := by
  unfold fm_power_b4
  refine tq_iload_n dX8_power_4 rfl ?_
  refine tq_iload_n dX8_power_5 rfl ?_
  refine tq_icmp_ge dX8_power_6 rfl ?_ ?_
  · exact Efm_power_b4 _ _ _ (⟨some (.int v0), rfl⟩, ⟨some (.int v1), rfl⟩, ⟨some (.int q.2), rfl⟩)
  · refine tq_iload_n dX8_power_9 rfl ?_
    refine tq_iload_n dX8_power_10 rfl ?_
    refine tq_imul dX8_power_11 ?_
    refine tq_istore_n (L' := [_, _, _, _]) dX8_power_12 (Nat.le_of_ble_eq_true rfl) rfl ?_
    refine tq_iinc (v := (q.2 + 1)) (L' := [_, _, _, _]) dX8_power_13 rfl (Nat.le_of_ble_eq_true rfl) rfl rfl ?_
    refine tq_goto dX8_power_16 rfl ?_
    exact Bfm_power_b4 _ _ _ _ ()
theorem Sfm_power_b4 {G : ai_G} {d : Nat} {h : ai_H} {α : Type} {P : α → Option ai_R → Prop} (v0 : Int32) (v1 : Int32) (b0 : Int32) (b1 : Int32) (J : Unit) {r : Int32 → Option α} (kk : ∀ (q : Int32) (J : JV × JV × JV), Tj G d 198 P (r q) 19 [J.1.1, J.2.1.1, some (.int q), J.2.2.1] [] h) : Tj G d 198 P ((lp (fm_power_b4 v0 v1) (b0, b1)).bind r) 4 [some (.int v0), some (.int v1), some (.int b0), some (.int b1)] [] h := tq_lp1 (J := J) (fun q J => wfm_power_b4 v0 v1 q J) rfl rfl kk
theorem wfm_power {G : ai_G} {d : Nat} {h : ai_H} (v0 : Int32) (v1 : Int32) : ∀ r, fm_power v0 v1 = some r → (Pi h) r (ai_call G (d + 1) 198 [.int v0, .int v1] h) := by
  refine tq_meth (P := (Pi h)) (d := d) (Nat.le_of_ble_eq_true rfl) ?_
  show Tj G d 198 (Pi h) (fm_power v0 v1) 0 [some (.int v0), some (.int v1), none, none] [] h
  unfold fm_power
  refine tq_iconst (v := 1) dX8_power_0 (by decide) ?_
  refine tq_istore_n (L' := [_, _, _, _]) dX8_power_1 (Nat.le_of_ble_eq_true rfl) rfl ?_
  refine tq_iconst (v := 0) dX8_power_2 (by decide) ?_
  refine tq_istore_n (L' := [_, _, _, _]) dX8_power_3 (Nat.le_of_ble_eq_true rfl) rfl ?_
  refine Sfm_power_b4 _ _ _ _ () (fun q4 J4 => ?_)
  refine tq_iload_n dX8_power_19 rfl ?_
  exact tq_ireturn dX8_power_20 rfl rfl
abbrev Pfm_goRow_b18 (G : ai_G) (d M : Nat) (h0 : ai_H) (v1 : Int32) (v3 : Int32) : (Int32 × Int32 × mS) ⊕ mS → Option ai_R → Prop := Sum.elim (fun (q : Int32 × Int32 × mS) run => ∃ J : JV × JV, run = ai_run G (d + 4) 199 18 [some (.ref M), some (.int v1), J.1.1, some (.int v3), some (.int q.1), some (.int q.2.1), J.2.1] [] (mH M q.2.2 h0)) (fun (q : mS) run => ∃ J : JV × JV × JV × JV, run = ai_run G (d + 4) 199 48 [some (.ref M), some (.int v1), J.1.1, some (.int v3), J.2.1.1, J.2.2.1.1, J.2.2.2.1] [] (mH M q h0))
theorem Bfm_goRow_b18 {G : ai_G} {d M : Nat} {h0 : ai_H} (v1 : Int32) (v3 : Int32) (b0 : Int32) (b1 : Int32) (b2 : mS) (J : JV × JV) : Tj G (d + 4) 199 (Pfm_goRow_b18 G d M h0 v1 v3) (some (.inl (b0, b1, b2))) 18 [some (.ref M), some (.int v1), J.1.1, some (.int v3), some (.int b0), some (.int b1), J.2.1] [] (mH M b2 h0) := tq_back J rfl rfl
theorem Efm_goRow_b18 {G : ai_G} {d M : Nat} {h0 : ai_H} (v1 : Int32) (v3 : Int32) (b0 : mS) (J : JV × JV × JV × JV) : Tj G (d + 4) 199 (Pfm_goRow_b18 G d M h0 v1 v3) (some (.inr b0)) 48 [some (.ref M), some (.int v1), J.1.1, some (.int v3), J.2.1.1, J.2.2.1.1, J.2.2.2.1] [] (mH M b0 h0) := tq_exit J rfl rfl
theorem wfm_goRow_b18 {G : ai_G} {d M : Nat} {h0 : ai_H} (v1 : Int32) (v3 : Int32) (q : Int32 × Int32 × mS) (J : JV × JV) : Tj G (d + 4) 199 (Pfm_goRow_b18 G d M h0 v1 v3) (fm_goRow_b18 v1 v3 q) 18 [some (.ref M), some (.int v1), J.1.1, some (.int v3), some (.int q.1), some (.int q.2.1), J.2.1] [] (mH M q.2.2 h0) := by
  unfold fm_goRow_b18
  refine tq_iload dX8_goRow_18 rfl ?_
  refine tq_if_lt dX8_goRow_20 rfl ?_ ?_
  · exact Efm_goRow_b18 _ _ _ (J.1, ⟨some (.int q.1), rfl⟩, ⟨some (.int q.2.1), rfl⟩, J.2)
  · refine tq_aload_n dX8_goRow_23 rfl ?_
    refine tm_ga (j := 25) dX8_goRow_24 rfl rfl ?_
    refine tq_iload dX8_goRow_27 rfl ?_
    refine tq_iload dX8_goRow_29 rfl ?_
    refine tq_iconst (v := 3) dX8_goRow_31 (by decide) ?_
    refine tq_irem dX8_goRow_32 (fun x32 => ?_)
    refine tq_iconst (v := 1) dX8_goRow_33 (by decide) ?_
    refine tq_isub dX8_goRow_34 ?_
    refine tm_ist dX8_goRow_35 rfl (fun s35 => ?_)
    refine tq_iload dX8_goRow_36 rfl ?_
    refine tq_iconst (v := 3) dX8_goRow_38 (by decide) ?_
    refine tq_idiv dX8_goRow_39 (fun x39 => ?_)
    refine tq_istore (L' := [_, _, _, _, _, _, _]) dX8_goRow_40 (Nat.le_of_ble_eq_true rfl) rfl ?_
    refine tq_iinc (v := (q.2.1 + (-1))) (L' := [_, _, _, _, _, _, _]) dX8_goRow_42 rfl (Nat.le_of_ble_eq_true rfl) rfl rfl ?_
    refine tq_goto dX8_goRow_45 rfl ?_
    exact Bfm_goRow_b18 _ _ _ _ _ (J.1, J.2)
theorem Sfm_goRow_b18 {G : ai_G} {d M : Nat} {h0 : ai_H} {α : Type} {P : α → Option ai_R → Prop} (v1 : Int32) (v3 : Int32) (b0 : Int32) (b1 : Int32) (b2 : mS) (J : JV × JV) {r : mS → Option α} (kk : ∀ (q : mS) (J : JV × JV × JV × JV), Tj G (d + 4) 199 P (r q) 48 [some (.ref M), some (.int v1), J.1.1, some (.int v3), J.2.1.1, J.2.2.1.1, J.2.2.2.1] [] (mH M q h0)) : Tj G (d + 4) 199 P ((lp (fm_goRow_b18 v1 v3) (b0, b1, b2)).bind r) 18 [some (.ref M), some (.int v1), J.1.1, some (.int v3), some (.int b0), some (.int b1), J.2.1] [] (mH M b2 h0) := tq_lp1 (J := J) (fun q J => wfm_goRow_b18 v1 v3 q J) rfl rfl kk
abbrev Pfm_goRow_b54 (G : ai_G) (d M : Nat) (h0 : ai_H) (v1 : Int32) (v3 : Int32) : (Int32 × Int32 × mS) ⊕ (Int32 × mS) → Option ai_R → Prop := Sum.elim (fun (q : Int32 × Int32 × mS) run => ∃ J : JV × JV, run = ai_run G (d + 4) 199 54 [some (.ref M), some (.int v1), J.1.1, some (.int v3), J.2.1, some (.int q.1), some (.int q.2.1)] [] (mH M q.2.2 h0)) (fun (q : Int32 × mS) run => ∃ J : JV × JV × JV × JV × JV × JV, run = ai_run G (d + 4) 199 97 [J.1.1, J.2.1.1, J.2.2.1.1, J.2.2.2.1.1, J.2.2.2.2.1.1, some (.int q.1), J.2.2.2.2.2.1] [] (mH M q.2 h0))
theorem Bfm_goRow_b54 {G : ai_G} {d M : Nat} {h0 : ai_H} (v1 : Int32) (v3 : Int32) (b0 : Int32) (b1 : Int32) (b2 : mS) (J : JV × JV) : Tj G (d + 4) 199 (Pfm_goRow_b54 G d M h0 v1 v3) (some (.inl (b0, b1, b2))) 54 [some (.ref M), some (.int v1), J.1.1, some (.int v3), J.2.1, some (.int b0), some (.int b1)] [] (mH M b2 h0) := tq_back J rfl rfl
theorem Efm_goRow_b54 {G : ai_G} {d M : Nat} {h0 : ai_H} (v1 : Int32) (v3 : Int32) (b0 : Int32) (b1 : mS) (J : JV × JV × JV × JV × JV × JV) : Tj G (d + 4) 199 (Pfm_goRow_b54 G d M h0 v1 v3) (some (.inr (b0, b1))) 97 [J.1.1, J.2.1.1, J.2.2.1.1, J.2.2.2.1.1, J.2.2.2.2.1.1, some (.int b0), J.2.2.2.2.2.1] [] (mH M b1 h0) := tq_exit J rfl rfl
theorem wfm_goRow_b54 {G : ai_G} {d M : Nat} {h0 : ai_H} (v1 : Int32) (v3 : Int32) (q : Int32 × Int32 × mS) (J : JV × JV) : Tj G (d + 4) 199 (Pfm_goRow_b54 G d M h0 v1 v3) (fm_goRow_b54 v1 v3 q) 54 [some (.ref M), some (.int v1), J.1.1, some (.int v3), J.2.1, some (.int q.1), some (.int q.2.1)] [] (mH M q.2.2 h0) := by
  unfold fm_goRow_b54
  refine tq_iload dX8_goRow_54 rfl ?_
  refine tq_iload_n dX8_goRow_56 rfl ?_
  refine tq_icmp_ge dX8_goRow_57 rfl ?_ ?_
  · exact Efm_goRow_b54 _ _ _ _ (⟨some (.ref M), rfl⟩, ⟨some (.int v1), rfl⟩, J.1, ⟨some (.int v3), rfl⟩, J.2, ⟨some (.int q.2.1), rfl⟩)
  · refine tq_iload dX8_goRow_60 rfl ?_
    refine tq_if_eq dX8_goRow_62 rfl ?_ ?_
    · exact Efm_goRow_b54 _ _ _ _ (⟨some (.ref M), rfl⟩, ⟨some (.int v1), rfl⟩, J.1, ⟨some (.int v3), rfl⟩, J.2, ⟨some (.int q.2.1), rfl⟩)
    · refine tq_aload_n dX8_goRow_65 rfl ?_
      refine tq_iload_n dX8_goRow_66 rfl ?_
      refine tq_aload_n dX8_goRow_67 rfl ?_
      refine tm_ga (j := 25) dX8_goRow_68 rfl rfl ?_
      refine tq_iload dX8_goRow_71 rfl ?_
      refine tm_ild dX8_goRow_73 rfl (fun x73 => ?_)
      refine tq_iconst (v := 1) dX8_goRow_74 (by decide) ?_
      refine tq_iconst (v := 1) dX8_goRow_75 (by decide) ?_
      refine tm_c4_I dX8_goRow_76 rfl rfl rfl (Nat.le_of_ble_eq_true rfl) (wfm_goStroke (d := d) _ _ _ _ _) (fun p76 => ?_)
      refine tq_iconst (v := 2) dX8_goRow_79 (by decide) ?_
      refine tq_irem dX8_goRow_80 (fun x80 => ?_)
      refine tq_if_ne dX8_goRow_81 rfl ?_ ?_
      · refine tq_iconst (v := 0) dX8_goRow_88 (by decide) ?_
        refine tq_istore (L' := [_, _, _, _, _, _, _]) dX8_goRow_89 (Nat.le_of_ble_eq_true rfl) (st1_jv (i := 4) (j := J.2) rfl rfl) ?_
        refine tq_iinc (v := (q.2.1 + 1)) (L' := [_, _, _, _, _, _, _]) dX8_goRow_91 rfl (Nat.le_of_ble_eq_true rfl) rfl rfl ?_
        refine tq_goto dX8_goRow_94 rfl ?_
        exact Bfm_goRow_b54 _ _ _ _ _ (J.1, J.2)
      · refine tq_iconst (v := 1) dX8_goRow_84 (by decide) ?_
        refine tq_goto dX8_goRow_85 rfl ?_
        refine tq_istore (L' := [_, _, _, _, _, _, _]) dX8_goRow_89 (Nat.le_of_ble_eq_true rfl) (st1_jv (i := 4) (j := J.2) rfl rfl) ?_
        refine tq_iinc (v := (q.2.1 + 1)) (L' := [_, _, _, _, _, _, _]) dX8_goRow_91 rfl (Nat.le_of_ble_eq_true rfl) rfl rfl ?_
        refine tq_goto dX8_goRow_94 rfl ?_
        exact Bfm_goRow_b54 _ _ _ _ _ (J.1, J.2)
theorem Sfm_goRow_b54 {G : ai_G} {d M : Nat} {h0 : ai_H} {α : Type} {P : α → Option ai_R → Prop} (v1 : Int32) (v3 : Int32) (b0 : Int32) (b1 : Int32) (b2 : mS) (J : JV × JV) {r : (Int32 × mS) → Option α} (kk : ∀ (q : Int32 × mS) (J : JV × JV × JV × JV × JV × JV), Tj G (d + 4) 199 P (r q) 97 [J.1.1, J.2.1.1, J.2.2.1.1, J.2.2.2.1.1, J.2.2.2.2.1.1, some (.int q.1), J.2.2.2.2.2.1] [] (mH M q.2 h0)) : Tj G (d + 4) 199 P ((lp (fm_goRow_b54 v1 v3) (b0, b1, b2)).bind r) 54 [some (.ref M), some (.int v1), J.1.1, some (.int v3), J.2.1, some (.int b0), some (.int b1)] [] (mH M b2 h0) := tq_lp1 (J := J) (fun q J => wfm_goRow_b54 v1 v3 q J) rfl rfl kk
theorem wfm_goRow {G : ai_G} {d M : Nat} {h0 : ai_H} (s : mS) (v1 : Int32) (v2 : Int32) : ∀ r, fm_goRow s v1 v2 = some r → (PmI M h0) r (ai_call G (d + 5) 199 [.ref M, .int v1, .int v2] (mH M s h0)) := by
  refine tq_meth (P := (PmI M h0)) (d := (d + 4)) (Nat.le_of_ble_eq_true rfl) ?_
  show Tj G (d + 4) 199 (PmI M h0) (fm_goRow s v1 v2) 0 [some (.ref M), some (.int v1), some (.int v2), none, none, none, none] [] (mH M s h0)
  unfold fm_goRow
  refine tq_aload_n dX8_goRow_0 rfl ?_
  refine tm_c0_V dX8_goRow_1 rfl rfl rfl (Nat.le_of_ble_eq_true rfl) (wfm_fill (d := d + 3) _) (fun p1 => ?_)
  refine tq_aload_n dX8_goRow_4 rfl ?_
  refine tq_iload_n dX8_goRow_5 rfl ?_
  refine tm_c1_i dX8_goRow_6 rfl rfl rfl (Nat.le_of_ble_eq_true rfl) (wfm_leftOf (d := d + 3) _ _) (fun p6 => ?_)
  refine tq_istore_n (L' := [_, _, _, _, _, _, _]) dX8_goRow_9 (Nat.le_of_ble_eq_true rfl) rfl ?_
  refine tq_iload_n dX8_goRow_10 rfl ?_
  refine tq_istore (L' := [_, _, _, _, _, _, _]) dX8_goRow_11 (Nat.le_of_ble_eq_true rfl) rfl ?_
  refine tq_iload_n dX8_goRow_13 rfl ?_
  refine tq_iconst (v := 1) dX8_goRow_14 (by decide) ?_
  refine tq_isub dX8_goRow_15 ?_
  refine tq_istore (L' := [_, _, _, _, _, _, _]) dX8_goRow_16 (Nat.le_of_ble_eq_true rfl) rfl ?_
  refine Sfm_goRow_b18 _ _ _ _ _ (⟨some (.int v2), rfl⟩, ⟨none, rfl⟩) (fun q18 J18 => ?_)
  refine tq_iconst (v := 1) dX8_goRow_48 (by decide) ?_
  refine tq_istore (L' := [_, _, _, _, _, _, _]) dX8_goRow_49 (Nat.le_of_ble_eq_true rfl) (st1_jv (i := 4) (j := J18.2.1) rfl rfl) ?_
  refine tq_iconst (v := 0) dX8_goRow_51 (by decide) ?_
  refine tq_istore (L' := [_, _, _, _, _, _, _]) dX8_goRow_52 (Nat.le_of_ble_eq_true rfl) rfl ?_
  refine Sfm_goRow_b54 _ _ _ _ _ (J18.1, J18.2.1) (fun q54 J54 => ?_)
  refine tq_iload dX8_goRow_97 rfl ?_
  exact tq_iretB dX8_goRow_99 rfl rfl rfl
abbrev Pfm_landingsOf_b4 (G : ai_G) (d M : Nat) (h0 : ai_H) (v1 : Int32) : (Int32 × Int32 × mS) ⊕ (Int32 × mS) → Option ai_R → Prop := Sum.elim (fun (q : Int32 × Int32 × mS) run => ∃ J : Unit, run = ai_run G (d + 5) 200 4 [some (.ref M), some (.int v1), some (.int q.1), some (.int q.2.1)] [] (mH M q.2.2 h0)) (fun (q : Int32 × mS) run => ∃ J : JV × JV × JV, run = ai_run G (d + 5) 200 43 [J.1.1, J.2.1.1, some (.int q.1), J.2.2.1] [] (mH M q.2 h0))
theorem Bfm_landingsOf_b4 {G : ai_G} {d M : Nat} {h0 : ai_H} (v1 : Int32) (b0 : Int32) (b1 : Int32) (b2 : mS) (J : Unit) : Tj G (d + 5) 200 (Pfm_landingsOf_b4 G d M h0 v1) (some (.inl (b0, b1, b2))) 4 [some (.ref M), some (.int v1), some (.int b0), some (.int b1)] [] (mH M b2 h0) := tq_back J rfl rfl
theorem Efm_landingsOf_b4 {G : ai_G} {d M : Nat} {h0 : ai_H} (v1 : Int32) (b0 : Int32) (b1 : mS) (J : JV × JV × JV) : Tj G (d + 5) 200 (Pfm_landingsOf_b4 G d M h0 v1) (some (.inr (b0, b1))) 43 [J.1.1, J.2.1.1, some (.int b0), J.2.2.1] [] (mH M b1 h0) := tq_exit J rfl rfl
theorem wfm_landingsOf_b4 {G : ai_G} {d M : Nat} {h0 : ai_H} (v1 : Int32) (q : Int32 × Int32 × mS) (J : Unit) : Tj G (d + 5) 200 (Pfm_landingsOf_b4 G d M h0 v1) (fm_landingsOf_b4 v1 q) 4 [some (.ref M), some (.int v1), some (.int q.1), some (.int q.2.1)] [] (mH M q.2.2 h0) := by
  unfold fm_landingsOf_b4
  refine tq_iload_n dX8_landingsOf_4 rfl ?_
  refine tq_iconst (v := 3) dX8_landingsOf_5 (by decide) ?_
  refine tq_aload_n dX8_landingsOf_6 rfl ?_
  refine tq_iload_n dX8_landingsOf_7 rfl ?_
  refine tm_c1_i dX8_landingsOf_8 rfl rfl rfl (Nat.le_of_ble_eq_true rfl) (wfm_leftOf (d := d + 4) _ _) (fun p8 => ?_)
  refine ts_c2_i dX8_landingsOf_11 rfl rfl rfl (Nat.le_of_ble_eq_true rfl) (wfm_power (d := d + 4) _ _) (fun p11 => ?_)
  refine tq_icmp_ge dX8_landingsOf_14 rfl ?_ ?_
  · exact Efm_landingsOf_b4 _ _ _ (⟨some (.ref M), rfl⟩, ⟨some (.int v1), rfl⟩, ⟨some (.int q.2.1), rfl⟩)
  · refine tq_aload_n dX8_landingsOf_17 rfl ?_
    refine tq_iload_n dX8_landingsOf_18 rfl ?_
    refine tq_iload_n dX8_landingsOf_19 rfl ?_
    refine tm_c2_I dX8_landingsOf_20 rfl rfl rfl (Nat.le_of_ble_eq_true rfl) (wfm_goRow (d := d) _ _ _) (fun p20 => ?_)
    refine tq_if_eq dX8_landingsOf_23 rfl ?_ ?_
    · refine tq_iinc (v := (q.2.1 + 1)) (L' := [_, _, _, _]) dX8_landingsOf_37 rfl (Nat.le_of_ble_eq_true rfl) rfl rfl ?_
      refine tq_goto dX8_landingsOf_40 rfl ?_
      exact Bfm_landingsOf_b4 _ _ _ _ ()
    · refine tq_iload_n dX8_landingsOf_26 rfl ?_
      refine tq_iconst (v := 1) dX8_landingsOf_27 (by decide) ?_
      refine tq_aload_n dX8_landingsOf_28 rfl ?_
      refine tm_ga (j := 23) dX8_landingsOf_29 rfl rfl ?_
      refine tq_iload_n dX8_landingsOf_32 rfl ?_
      refine tm_ild dX8_landingsOf_33 rfl (fun x33 => ?_)
      refine tq_ishl dX8_landingsOf_34 ?_
      refine tq_ior dX8_landingsOf_35 ?_
      refine tq_istore_n (L' := [_, _, _, _]) dX8_landingsOf_36 (Nat.le_of_ble_eq_true rfl) rfl ?_
      refine tq_iinc (v := (q.2.1 + 1)) (L' := [_, _, _, _]) dX8_landingsOf_37 rfl (Nat.le_of_ble_eq_true rfl) rfl rfl ?_
      refine tq_goto dX8_landingsOf_40 rfl ?_
      exact Bfm_landingsOf_b4 _ _ _ _ ()
theorem Sfm_landingsOf_b4 {G : ai_G} {d M : Nat} {h0 : ai_H} {α : Type} {P : α → Option ai_R → Prop} (v1 : Int32) (b0 : Int32) (b1 : Int32) (b2 : mS) (J : Unit) {r : (Int32 × mS) → Option α} (kk : ∀ (q : Int32 × mS) (J : JV × JV × JV), Tj G (d + 5) 200 P (r q) 43 [J.1.1, J.2.1.1, some (.int q.1), J.2.2.1] [] (mH M q.2 h0)) : Tj G (d + 5) 200 P ((lp (fm_landingsOf_b4 v1) (b0, b1, b2)).bind r) 4 [some (.ref M), some (.int v1), some (.int b0), some (.int b1)] [] (mH M b2 h0) := tq_lp1 (J := J) (fun q J => wfm_landingsOf_b4 v1 q J) rfl rfl kk
theorem wfm_landingsOf {G : ai_G} {d M : Nat} {h0 : ai_H} (s : mS) (v1 : Int32) : ∀ r, fm_landingsOf s v1 = some r → (PmI M h0) r (ai_call G (d + 6) 200 [.ref M, .int v1] (mH M s h0)) := by
  refine tq_meth (P := (PmI M h0)) (d := (d + 5)) (Nat.le_of_ble_eq_true rfl) ?_
  show Tj G (d + 5) 200 (PmI M h0) (fm_landingsOf s v1) 0 [some (.ref M), some (.int v1), none, none] [] (mH M s h0)
  unfold fm_landingsOf
  refine tq_iconst (v := 0) dX8_landingsOf_0 (by decide) ?_
  refine tq_istore_n (L' := [_, _, _, _]) dX8_landingsOf_1 (Nat.le_of_ble_eq_true rfl) rfl ?_
  refine tq_iconst (v := 0) dX8_landingsOf_2 (by decide) ?_
  refine tq_istore_n (L' := [_, _, _, _]) dX8_landingsOf_3 (Nat.le_of_ble_eq_true rfl) rfl ?_
  refine Sfm_landingsOf_b4 _ _ _ _ () (fun q4 J4 => ?_)
  refine tq_iload_n dX8_landingsOf_43 rfl ?_
  exact tq_ireturn dX8_landingsOf_44 rfl rfl
theorem wfm_landings {G : ai_G} {d M : Nat} {h0 : ai_H} (s : mS) (v1 : Int32) : ∀ r, fm_landings s v1 = some r → (PmI M h0) r (ai_call G (d + 7) 201 [.ref M, .int v1] (mH M s h0)) := by
  refine tq_meth (P := (PmI M h0)) (d := (d + 6)) (Nat.le_of_ble_eq_true rfl) ?_
  show Tj G (d + 6) 201 (PmI M h0) (fm_landings s v1) 0 [some (.ref M), some (.int v1)] [] (mH M s h0)
  unfold fm_landings
  refine tq_aload_n dX8_landings_0 rfl ?_
  refine tq_iload_n dX8_landings_1 rfl ?_
  refine tm_c1_i dX8_landings_2 rfl rfl rfl (Nat.le_of_ble_eq_true rfl) (wfm_isBoard (d := d + 4) _ _) (fun p2 => ?_)
  refine tq_if_eq dX8_landings_5 rfl ?_ ?_
  · refine tq_iconst (v := (-1)) dX8_landings_16 (by decide) ?_
    exact tq_ireturn dX8_landings_17 rfl rfl
  · refine tq_aload_n dX8_landings_8 rfl ?_
    refine tq_iload_n dX8_landings_9 rfl ?_
    refine tm_c1_I dX8_landings_10 rfl rfl rfl (Nat.le_of_ble_eq_true rfl) (wfm_landingsOf (d := d) _ _) (fun p10 => ?_)
    refine tq_goto dX8_landings_13 rfl ?_
    exact tq_ireturn dX8_landings_17 rfl rfl
theorem wfm_unsteered {G : ai_G} {d M : Nat} {h0 : ai_H} (s : mS) (v1 : Int32) : ∀ r, fm_unsteered s v1 = some r → (Pi (mH M s h0)) r (ai_call G (d + 2) 204 [.ref M, .int v1] (mH M s h0)) := by
  refine tq_meth (P := (Pi (mH M s h0))) (d := (d + 1)) (Nat.le_of_ble_eq_true rfl) ?_
  show Tj G (d + 1) 204 (Pi (mH M s h0)) (fm_unsteered s v1) 0 [some (.ref M), some (.int v1)] [] (mH M s h0)
  unfold fm_unsteered
  refine tq_iconst (v := 3) dX8_unsteered_0 (by decide) ?_
  refine tq_aload_n dX8_unsteered_1 rfl ?_
  refine tq_iload_n dX8_unsteered_2 rfl ?_
  refine tm_c1_i dX8_unsteered_3 rfl rfl rfl (Nat.le_of_ble_eq_true rfl) (wfm_leftOf (d := d) _ _) (fun p3 => ?_)
  refine ts_c2_i dX8_unsteered_6 rfl rfl rfl (Nat.le_of_ble_eq_true rfl) (wfm_power (d := d) _ _) (fun p6 => ?_)
  refine tq_iconst (v := 1) dX8_unsteered_9 (by decide) ?_
  refine tq_isub dX8_unsteered_10 ?_
  refine tq_iconst (v := 2) dX8_unsteered_11 (by decide) ?_
  refine tq_idiv dX8_unsteered_12 (fun x12 => ?_)
  exact tq_ireturn dX8_unsteered_13 rfl rfl
theorem wfm_drift {G : ai_G} {d M : Nat} {h0 : ai_H} (s : mS) (v1 : Int32) : ∀ r, fm_drift s v1 = some r → (PmI M h0) r (ai_call G (d + 6) 205 [.ref M, .int v1] (mH M s h0)) := by
  refine tq_meth (P := (PmI M h0)) (d := (d + 5)) (Nat.le_of_ble_eq_true rfl) ?_
  show Tj G (d + 5) 205 (PmI M h0) (fm_drift s v1) 0 [some (.ref M), some (.int v1)] [] (mH M s h0)
  unfold fm_drift
  refine tq_aload_n dX8_drift_0 rfl ?_
  refine tq_iload_n dX8_drift_1 rfl ?_
  refine tm_c1_i dX8_drift_2 rfl rfl rfl (Nat.le_of_ble_eq_true rfl) (wfm_isBoard (d := d + 3) _ _) (fun p2 => ?_)
  refine tq_if_eq dX8_drift_5 rfl ?_ ?_
  · refine tq_iconst (v := (-1)) dX8_drift_30 (by decide) ?_
    exact tq_ireturn dX8_drift_31 rfl rfl
  · refine tq_aload_n dX8_drift_8 rfl ?_
    refine tq_iload_n dX8_drift_9 rfl ?_
    refine tq_aload_n dX8_drift_10 rfl ?_
    refine tq_iload_n dX8_drift_11 rfl ?_
    refine tm_c1_i dX8_drift_12 rfl rfl rfl (Nat.le_of_ble_eq_true rfl) (wfm_unsteered (d := d + 3) _ _) (fun p12 => ?_)
    refine tm_c2_I dX8_drift_15 rfl rfl rfl (Nat.le_of_ble_eq_true rfl) (wfm_goRow (d := d) _ _ _) (fun p15 => ?_)
    refine tq_if_eq dX8_drift_18 rfl ?_ ?_
    · refine tq_iconst (v := (-1)) dX8_drift_30 (by decide) ?_
      exact tq_ireturn dX8_drift_31 rfl rfl
    · refine tq_aload_n dX8_drift_21 rfl ?_
      refine tm_ga (j := 23) dX8_drift_22 rfl rfl ?_
      refine tq_iload_n dX8_drift_25 rfl ?_
      refine tm_ild dX8_drift_26 rfl (fun x26 => ?_)
      refine tq_goto dX8_drift_27 rfl ?_
      exact tq_ireturn dX8_drift_31 rfl rfl
abbrev Pfm_rows_b14 (G : ai_G) (d M : Nat) (h0 : ai_H) (v1 : Int32) : (Int32 × Int32 × mS) ⊕ (Int32 × mS) → Option ai_R → Prop := Sum.elim (fun (q : Int32 × Int32 × mS) run => ∃ J : Unit, run = ai_run G (d + 5) 207 14 [some (.ref M), some (.int v1), some (.int q.1), some (.int q.2.1)] [] (mH M q.2.2 h0)) (fun (q : Int32 × mS) run => ∃ J : JV × JV × JV, run = ai_run G (d + 5) 207 45 [J.1.1, J.2.1.1, some (.int q.1), J.2.2.1] [] (mH M q.2 h0))
theorem Bfm_rows_b14 {G : ai_G} {d M : Nat} {h0 : ai_H} (v1 : Int32) (b0 : Int32) (b1 : Int32) (b2 : mS) (J : Unit) : Tj G (d + 5) 207 (Pfm_rows_b14 G d M h0 v1) (some (.inl (b0, b1, b2))) 14 [some (.ref M), some (.int v1), some (.int b0), some (.int b1)] [] (mH M b2 h0) := tq_back J rfl rfl
theorem Efm_rows_b14 {G : ai_G} {d M : Nat} {h0 : ai_H} (v1 : Int32) (b0 : Int32) (b1 : mS) (J : JV × JV × JV) : Tj G (d + 5) 207 (Pfm_rows_b14 G d M h0 v1) (some (.inr (b0, b1))) 45 [J.1.1, J.2.1.1, some (.int b0), J.2.2.1] [] (mH M b1 h0) := tq_exit J rfl rfl
theorem wfm_rows_b14 {G : ai_G} {d M : Nat} {h0 : ai_H} (v1 : Int32) (q : Int32 × Int32 × mS) (J : Unit) : Tj G (d + 5) 207 (Pfm_rows_b14 G d M h0 v1) (fm_rows_b14 v1 q) 14 [some (.ref M), some (.int v1), some (.int q.1), some (.int q.2.1)] [] (mH M q.2.2 h0) := by
  unfold fm_rows_b14
  refine tq_iload_n dX8_rows_14 rfl ?_
  refine tq_iconst (v := 3) dX8_rows_15 (by decide) ?_
  refine tq_aload_n dX8_rows_16 rfl ?_
  refine tq_iload_n dX8_rows_17 rfl ?_
  refine tm_c1_i dX8_rows_18 rfl rfl rfl (Nat.le_of_ble_eq_true rfl) (wfm_leftOf (d := d + 4) _ _) (fun p18 => ?_)
  refine ts_c2_i dX8_rows_21 rfl rfl rfl (Nat.le_of_ble_eq_true rfl) (wfm_power (d := d + 4) _ _) (fun p21 => ?_)
  refine tq_icmp_ge dX8_rows_24 rfl ?_ ?_
  · exact Efm_rows_b14 _ _ _ (⟨some (.ref M), rfl⟩, ⟨some (.int v1), rfl⟩, ⟨some (.int q.2.1), rfl⟩)
  · refine tq_iload_n dX8_rows_27 rfl ?_
    refine tq_aload_n dX8_rows_28 rfl ?_
    refine tq_iload_n dX8_rows_29 rfl ?_
    refine tq_iload_n dX8_rows_30 rfl ?_
    refine tm_c2_I dX8_rows_31 rfl rfl rfl (Nat.le_of_ble_eq_true rfl) (wfm_goRow (d := d) _ _ _) (fun p31 => ?_)
    refine ts_c1_i dX8_rows_34 rfl rfl rfl (Nat.le_of_ble_eq_true rfl) (wfm_truth (d := d + 4) _) (fun p34 => ?_)
    refine tq_iadd dX8_rows_37 ?_
    refine tq_istore_n (L' := [_, _, _, _]) dX8_rows_38 (Nat.le_of_ble_eq_true rfl) rfl ?_
    refine tq_iinc (v := (q.2.1 + 1)) (L' := [_, _, _, _]) dX8_rows_39 rfl (Nat.le_of_ble_eq_true rfl) rfl rfl ?_
    refine tq_goto dX8_rows_42 rfl ?_
    exact Bfm_rows_b14 _ _ _ _ ()
theorem Sfm_rows_b14 {G : ai_G} {d M : Nat} {h0 : ai_H} {α : Type} {P : α → Option ai_R → Prop} (v1 : Int32) (b0 : Int32) (b1 : Int32) (b2 : mS) (J : Unit) {r : (Int32 × mS) → Option α} (kk : ∀ (q : Int32 × mS) (J : JV × JV × JV), Tj G (d + 5) 207 P (r q) 45 [J.1.1, J.2.1.1, some (.int q.1), J.2.2.1] [] (mH M q.2 h0)) : Tj G (d + 5) 207 P ((lp (fm_rows_b14 v1) (b0, b1, b2)).bind r) 14 [some (.ref M), some (.int v1), some (.int b0), some (.int b1)] [] (mH M b2 h0) := tq_lp1 (J := J) (fun q J => wfm_rows_b14 v1 q J) rfl rfl kk
theorem wfm_rows {G : ai_G} {d M : Nat} {h0 : ai_H} (s : mS) (v1 : Int32) : ∀ r, fm_rows s v1 = some r → (PmI M h0) r (ai_call G (d + 6) 207 [.ref M, .int v1] (mH M s h0)) := by
  refine tq_meth (P := (PmI M h0)) (d := (d + 5)) (Nat.le_of_ble_eq_true rfl) ?_
  show Tj G (d + 5) 207 (PmI M h0) (fm_rows s v1) 0 [some (.ref M), some (.int v1), none, none] [] (mH M s h0)
  unfold fm_rows
  refine tq_aload_n dX8_rows_0 rfl ?_
  refine tq_iload_n dX8_rows_1 rfl ?_
  refine tm_c1_i dX8_rows_2 rfl rfl rfl (Nat.le_of_ble_eq_true rfl) (wfm_isBoard (d := d + 3) _ _) (fun p2 => ?_)
  refine tq_if_ne dX8_rows_5 rfl ?_ ?_
  · refine tq_iconst (v := 0) dX8_rows_10 (by decide) ?_
    refine tq_istore_n (L' := [_, _, _, _]) dX8_rows_11 (Nat.le_of_ble_eq_true rfl) rfl ?_
    refine tq_iconst (v := 0) dX8_rows_12 (by decide) ?_
    refine tq_istore_n (L' := [_, _, _, _]) dX8_rows_13 (Nat.le_of_ble_eq_true rfl) rfl ?_
    refine Sfm_rows_b14 _ _ _ _ () (fun q14 J14 => ?_)
    refine tq_iload_n dX8_rows_45 rfl ?_
    exact tq_ireturn dX8_rows_46 rfl rfl
  · refine tq_iconst (v := (-1)) dX8_rows_8 (by decide) ?_
    exact tq_ireturn dX8_rows_9 rfl rfl
abbrev Pfm_putSteers_b11 (G : ai_G) (d M : Nat) (h0 : ai_H)  : (Int32 × mS) ⊕ mS → Option ai_R → Prop := Sum.elim (fun (q : Int32 × mS) run => ∃ J : JV, run = ai_run G (d + 1) 212 11 [some (.ref M), J.1, some (.int q.1)] [] (mH M q.2 h0)) (fun (q : mS) run => ∃ J : JV × JV × JV, run = ai_run G (d + 1) 212 37 [J.1.1, J.2.1.1, J.2.2.1] [] (mH M q h0))
theorem Bfm_putSteers_b11 {G : ai_G} {d M : Nat} {h0 : ai_H}  (b0 : Int32) (b1 : mS) (J : JV) : Tj G (d + 1) 212 (Pfm_putSteers_b11 G d M h0) (some (.inl (b0, b1))) 11 [some (.ref M), J.1, some (.int b0)] [] (mH M b1 h0) := tq_back J rfl rfl
theorem Efm_putSteers_b11 {G : ai_G} {d M : Nat} {h0 : ai_H}  (b0 : mS) (J : JV × JV × JV) : Tj G (d + 1) 212 (Pfm_putSteers_b11 G d M h0) (some (.inr b0)) 37 [J.1.1, J.2.1.1, J.2.2.1] [] (mH M b0 h0) := tq_exit J rfl rfl
theorem wfm_putSteers_b11 {G : ai_G} {d M : Nat} {h0 : ai_H}  (q : Int32 × mS) (J : JV) : Tj G (d + 1) 212 (Pfm_putSteers_b11 G d M h0) (fm_putSteers_b11 q) 11 [some (.ref M), J.1, some (.int q.1)] [] (mH M q.2 h0) := by
  unfold fm_putSteers_b11
  refine tq_iload_n dX8_putSteers_11 rfl ?_
  refine tq_aload_n dX8_putSteers_12 rfl ?_
  refine tm_gi (k9 := 61) dX8_putSteers_13 rfl rfl ?_
  refine tq_icmp_ge dX8_putSteers_16 rfl ?_ ?_
  · exact Efm_putSteers_b11 _ (⟨some (.ref M), rfl⟩, J, ⟨some (.int q.1), rfl⟩)
  · refine tq_aload_n dX8_putSteers_19 rfl ?_
    refine tm_ga (j := 26) dX8_putSteers_20 rfl rfl ?_
    refine tq_iload_n dX8_putSteers_23 rfl ?_
    refine tq_aload_n dX8_putSteers_24 rfl ?_
    refine tm_ga (j := 25) dX8_putSteers_25 rfl rfl ?_
    refine tq_iload_n dX8_putSteers_28 rfl ?_
    refine tm_ild dX8_putSteers_29 rfl (fun x29 => ?_)
    refine tm_ist dX8_putSteers_30 rfl (fun s30 => ?_)
    refine tq_iinc (v := (q.1 + 1)) (L' := [_, _, _]) dX8_putSteers_31 rfl (Nat.le_of_ble_eq_true rfl) rfl (st1_jv (i := 1) (j := J) rfl rfl) ?_
    refine tq_goto dX8_putSteers_34 rfl ?_
    exact Bfm_putSteers_b11 _ _ J
theorem Sfm_putSteers_b11 {G : ai_G} {d M : Nat} {h0 : ai_H} {α : Type} {P : α → Option ai_R → Prop}  (b0 : Int32) (b1 : mS) (J : JV) {r : mS → Option α} (kk : ∀ (q : mS) (J : JV × JV × JV), Tj G (d + 1) 212 P (r q) 37 [J.1.1, J.2.1.1, J.2.2.1] [] (mH M q h0)) : Tj G (d + 1) 212 P ((lp fm_putSteers_b11 (b0, b1)).bind r) 11 [some (.ref M), J.1, some (.int b0)] [] (mH M b1 h0) := tq_lp1 (J := J) (fun q J => wfm_putSteers_b11  q J) rfl rfl kk
theorem wfm_putSteers {G : ai_G} {d M : Nat} {h0 : ai_H} (s : mS) (v1 : Int32) : ∀ r, fm_putSteers s v1 = some r → (PmV M h0) r (ai_call G (d + 2) 212 [.ref M, .int v1] (mH M s h0)) := by
  refine tq_meth (P := (PmV M h0)) (d := (d + 1)) (Nat.le_of_ble_eq_true rfl) ?_
  show Tj G (d + 1) 212 (PmV M h0) (fm_putSteers s v1) 0 [some (.ref M), some (.int v1), none] [] (mH M s h0)
  unfold fm_putSteers
  refine tq_aload_n dX8_putSteers_0 rfl ?_
  refine tq_aload_n dX8_putSteers_1 rfl ?_
  refine tq_iload_n dX8_putSteers_2 rfl ?_
  refine tm_c1_i dX8_putSteers_3 rfl rfl rfl (Nat.le_of_ble_eq_true rfl) (wfm_leftOf (d := d) _ _) (fun p3 => ?_)
  refine tm_pi dX8_putSteers_6 rfl rfl (fun s6 => ?_)
  refine tq_iconst (v := 0) dX8_putSteers_9 (by decide) ?_
  refine tq_istore_n (L' := [_, _, _]) dX8_putSteers_10 (Nat.le_of_ble_eq_true rfl) rfl ?_
  refine Sfm_putSteers_b11 _ _ ⟨some (.int v1), rfl⟩ (fun q11 J11 => ?_)
  exact tq_return dX8_putSteers_37 rfl rfl
abbrev Pfm_coolest_b34 (G : ai_G) (d M : Nat) (h0 : ai_H) (v1 : Int32) (v2 : Int32) : (Int32 × Int32 × Int32 × mS) ⊕ (Int32 × Int32 × mS) → Option ai_R → Prop := Sum.elim (fun (q : Int32 × Int32 × Int32 × mS) run => ∃ J : JV, run = ai_run G (d + 5) 213 34 [some (.ref M), some (.int v1), some (.int v2), some (.int q.1), some (.int q.2.1), some (.int q.2.2.1), J.1] [] (mH M q.2.2.2 h0)) (fun (q : Int32 × Int32 × mS) run => ∃ J : JV × JV × JV × JV, run = ai_run G (d + 5) 213 126 [J.1.1, J.2.1.1, some (.int v2), some (.int q.1), some (.int q.2.1), J.2.2.1.1, J.2.2.2.1] [] (mH M q.2.2 h0))
theorem Bfm_coolest_b34 {G : ai_G} {d M : Nat} {h0 : ai_H} (v1 : Int32) (v2 : Int32) (b0 : Int32) (b1 : Int32) (b2 : Int32) (b3 : mS) (J : JV) : Tj G (d + 5) 213 (Pfm_coolest_b34 G d M h0 v1 v2) (some (.inl (b0, b1, b2, b3))) 34 [some (.ref M), some (.int v1), some (.int v2), some (.int b0), some (.int b1), some (.int b2), J.1] [] (mH M b3 h0) := tq_back J rfl rfl
theorem Efm_coolest_b34 {G : ai_G} {d M : Nat} {h0 : ai_H} (v1 : Int32) (v2 : Int32) (b0 : Int32) (b1 : Int32) (b2 : mS) (J : JV × JV × JV × JV) : Tj G (d + 5) 213 (Pfm_coolest_b34 G d M h0 v1 v2) (some (.inr (b0, b1, b2))) 126 [J.1.1, J.2.1.1, some (.int v2), some (.int b0), some (.int b1), J.2.2.1.1, J.2.2.2.1] [] (mH M b2 h0) := tq_exit J rfl rfl
theorem wfm_coolest_b34 {G : ai_G} {d M : Nat} {h0 : ai_H} (v1 : Int32) (v2 : Int32) (q : Int32 × Int32 × Int32 × mS) (J : JV) : Tj G (d + 5) 213 (Pfm_coolest_b34 G d M h0 v1 v2) (fm_coolest_b34 v1 v2 q) 34 [some (.ref M), some (.int v1), some (.int v2), some (.int q.1), some (.int q.2.1), some (.int q.2.2.1), J.1] [] (mH M q.2.2.2 h0) := by
  unfold fm_coolest_b34
  refine tq_iload dX8_coolest_34 rfl ?_
  refine tq_iconst (v := 3) dX8_coolest_36 (by decide) ?_
  refine tq_aload_n dX8_coolest_37 rfl ?_
  refine tq_iload_n dX8_coolest_38 rfl ?_
  refine tm_c1_i dX8_coolest_39 rfl rfl rfl (Nat.le_of_ble_eq_true rfl) (wfm_leftOf (d := d + 4) _ _) (fun p39 => ?_)
  refine ts_c2_i dX8_coolest_42 rfl rfl rfl (Nat.le_of_ble_eq_true rfl) (wfm_power (d := d + 4) _ _) (fun p42 => ?_)
  refine tq_icmp_ge dX8_coolest_45 rfl ?_ ?_
  · exact Efm_coolest_b34 _ _ _ _ _ (⟨some (.ref M), rfl⟩, ⟨some (.int v1), rfl⟩, ⟨some (.int q.2.2.1), rfl⟩, J)
  · refine tq_aload_n dX8_coolest_48 rfl ?_
    refine tq_iload_n dX8_coolest_49 rfl ?_
    refine tq_iload dX8_coolest_50 rfl ?_
    refine tm_c2_I dX8_coolest_52 rfl rfl rfl (Nat.le_of_ble_eq_true rfl) (wfm_goRow (d := d) _ _ _) (fun p52 => ?_)
    refine tq_if_ne dX8_coolest_55 rfl ?_ ?_
    · refine tq_bipush (v := 100) dX8_coolest_61 (by decide) ?_
      refine tq_aload_n dX8_coolest_63 rfl ?_
      refine tm_ga (j := 23) dX8_coolest_64 rfl rfl ?_
      refine tq_bipush (v := 12) dX8_coolest_67 (by decide) ?_
      refine tq_iload_n dX8_coolest_69 rfl ?_
      refine tq_iadd dX8_coolest_70 ?_
      refine tm_ild dX8_coolest_71 rfl (fun x71 => ?_)
      refine tq_aload_n dX8_coolest_72 rfl ?_
      refine tm_ga (j := 22) dX8_coolest_73 rfl rfl ?_
      refine tq_bipush (v := 12) dX8_coolest_76 (by decide) ?_
      refine tq_iload_n dX8_coolest_78 rfl ?_
      refine tq_iadd dX8_coolest_79 ?_
      refine tm_ild dX8_coolest_80 rfl (fun x80 => ?_)
      refine tq_isub dX8_coolest_81 ?_
      refine tq_imul dX8_coolest_82 ?_
      refine tq_aload_n dX8_coolest_83 rfl ?_
      refine tm_ga (j := 23) dX8_coolest_84 rfl rfl ?_
      refine tq_bipush (v := 8) dX8_coolest_87 (by decide) ?_
      refine tq_iload_n dX8_coolest_89 rfl ?_
      refine tq_iadd dX8_coolest_90 ?_
      refine tm_ild dX8_coolest_91 rfl (fun x91 => ?_)
      refine tq_iadd dX8_coolest_92 ?_
      refine tq_istore (L' := [_, _, _, _, _, _, _]) dX8_coolest_93 (Nat.le_of_ble_eq_true rfl) rfl ?_
      refine tq_iload dX8_coolest_95 rfl ?_
      refine tq_iload_n dX8_coolest_97 rfl ?_
      refine tq_icmp_lt dX8_coolest_98 rfl ?_ ?_
      · refine tq_iload dX8_coolest_104 rfl ?_
        refine tq_istore_n (L' := [_, _, _, _, _, _, _]) dX8_coolest_106 (Nat.le_of_ble_eq_true rfl) rfl ?_
        refine tq_aload_n dX8_coolest_107 rfl ?_
        refine tm_ga (j := 23) dX8_coolest_108 rfl rfl ?_
        refine tq_iload_n dX8_coolest_111 rfl ?_
        refine tm_ild dX8_coolest_112 rfl (fun x112 => ?_)
        refine tq_istore (L' := [_, _, _, _, _, _, _]) dX8_coolest_113 (Nat.le_of_ble_eq_true rfl) rfl ?_
        refine tq_aload_n dX8_coolest_115 rfl ?_
        refine tq_iload_n dX8_coolest_116 rfl ?_
        refine tm_c1_V dX8_coolest_117 rfl rfl rfl (Nat.le_of_ble_eq_true rfl) (wfm_putSteers (d := d + 3) _ _) (fun p117 => ?_)
        refine tq_iinc (v := (q.2.2.1 + 1)) (L' := [_, _, _, _, _, _, _]) dX8_coolest_120 rfl (Nat.le_of_ble_eq_true rfl) rfl rfl ?_
        refine tq_goto dX8_coolest_123 rfl ?_
        exact Bfm_coolest_b34 _ _ _ _ _ _ ⟨some (.int ((100 * (x71 - x80)) + x91)), rfl⟩
      · refine tq_goto dX8_coolest_101 rfl ?_
        refine tq_iinc (v := (q.2.2.1 + 1)) (L' := [_, _, _, _, _, _, _]) dX8_coolest_120 rfl (Nat.le_of_ble_eq_true rfl) rfl rfl ?_
        refine tq_goto dX8_coolest_123 rfl ?_
        exact Bfm_coolest_b34 _ _ _ _ _ _ ⟨some (.int ((100 * (x71 - x80)) + x91)), rfl⟩
    · refine tq_goto dX8_coolest_58 rfl ?_
      refine tq_iinc (v := (q.2.2.1 + 1)) (L' := [_, _, _, _, _, _, _]) dX8_coolest_120 rfl (Nat.le_of_ble_eq_true rfl) rfl rfl ?_
      refine tq_goto dX8_coolest_123 rfl ?_
      exact Bfm_coolest_b34 _ _ _ _ _ _ J
theorem Sfm_coolest_b34 {G : ai_G} {d M : Nat} {h0 : ai_H} {α : Type} {P : α → Option ai_R → Prop} (v1 : Int32) (v2 : Int32) (b0 : Int32) (b1 : Int32) (b2 : Int32) (b3 : mS) (J : JV) {r : (Int32 × Int32 × mS) → Option α} (kk : ∀ (q : Int32 × Int32 × mS) (J : JV × JV × JV × JV), Tj G (d + 5) 213 P (r q) 126 [J.1.1, J.2.1.1, some (.int v2), some (.int q.1), some (.int q.2.1), J.2.2.1.1, J.2.2.2.1] [] (mH M q.2.2 h0)) : Tj G (d + 5) 213 P ((lp (fm_coolest_b34 v1 v2) (b0, b1, b2, b3)).bind r) 34 [some (.ref M), some (.int v1), some (.int v2), some (.int b0), some (.int b1), some (.int b2), J.1] [] (mH M b3 h0) := tq_lp1 (J := J) (fun q J => wfm_coolest_b34 v1 v2 q J) rfl rfl kk
theorem wfm_coolest {G : ai_G} {d M : Nat} {h0 : ai_H} (s : mS) (v1 : Int32) (v2 : Int32) : ∀ r, fm_coolest s v1 v2 = some r → (PmI M h0) r (ai_call G (d + 6) 213 [.ref M, .int v1, .int v2] (mH M s h0)) := by
  refine tq_meth (P := (PmI M h0)) (d := (d + 5)) (Nat.le_of_ble_eq_true rfl) ?_
  show Tj G (d + 5) 213 (PmI M h0) (fm_coolest s v1 v2) 0 [some (.ref M), some (.int v1), some (.int v2), none, none, none, none] [] (mH M s h0)
  unfold fm_coolest
  refine tq_aload_n dX8_coolest_0 rfl ?_
  refine tq_iconst (v := 0) dX8_coolest_1 (by decide) ?_
  refine tm_pi dX8_coolest_2 rfl rfl (fun s2 => ?_)
  refine tq_aload_n dX8_coolest_5 rfl ?_
  refine tq_iload_n dX8_coolest_6 rfl ?_
  refine tm_c1_i dX8_coolest_7 rfl rfl rfl (Nat.le_of_ble_eq_true rfl) (wfm_isBoard (d := d + 3) _ _) (fun p7 => ?_)
  refine tq_if_eq dX8_coolest_10 rfl ?_ ?_
  · refine tq_iconst (v := (-1)) dX8_coolest_22 (by decide) ?_
    exact tq_ireturn dX8_coolest_23 rfl rfl
  · refine tq_iload_n dX8_coolest_13 rfl ?_
    refine tq_iconst (v := 0) dX8_coolest_14 (by decide) ?_
    refine tq_iconst (v := 2) dX8_coolest_15 (by decide) ?_
    refine ts_c3_i dX8_coolest_16 rfl rfl rfl (Nat.le_of_ble_eq_true rfl) (wfm_isIn (d := d + 4) _ _ _) (fun p16 => ?_)
    refine tq_if_ne dX8_coolest_19 rfl ?_ ?_
    · refine tq_ldc_w (v := .int 1000000) dX8_coolest_24 rfl rfl ?_
      refine tq_istore_n (L' := [_, _, _, _, _, _, _]) dX8_coolest_27 (Nat.le_of_ble_eq_true rfl) rfl ?_
      refine tq_iconst (v := (-1)) dX8_coolest_28 (by decide) ?_
      refine tq_istore (L' := [_, _, _, _, _, _, _]) dX8_coolest_29 (Nat.le_of_ble_eq_true rfl) rfl ?_
      refine tq_iconst (v := 0) dX8_coolest_31 (by decide) ?_
      refine tq_istore (L' := [_, _, _, _, _, _, _]) dX8_coolest_32 (Nat.le_of_ble_eq_true rfl) rfl ?_
      refine Sfm_coolest_b34 _ _ _ _ _ _ ⟨none, rfl⟩ (fun q34 J34 => ?_)
      refine tq_iload dX8_coolest_126 rfl ?_
      refine tq_if_ge dX8_coolest_128 rfl ?_ ?_
      · refine tq_iload_n dX8_coolest_135 rfl ?_
        refine tq_if_ne dX8_coolest_136 rfl ?_ ?_
        · refine tq_iload_n dX8_coolest_146 rfl ?_
          refine tq_iconst (v := 1) dX8_coolest_147 (by decide) ?_
          refine tq_icmp_ne dX8_coolest_148 rfl ?_ ?_
          · refine tq_iload dX8_coolest_158 rfl ?_
            exact tq_ireturn dX8_coolest_160 rfl rfl
          · refine tq_iload_n dX8_coolest_151 rfl ?_
            refine tq_bipush (v := 100) dX8_coolest_152 (by decide) ?_
            refine tq_irem dX8_coolest_154 (fun x154 => ?_)
            refine tq_goto dX8_coolest_155 rfl ?_
            exact tq_ireturn dX8_coolest_160 rfl rfl
        · refine tq_iload_n dX8_coolest_139 rfl ?_
          refine tq_bipush (v := 100) dX8_coolest_140 (by decide) ?_
          refine tq_idiv dX8_coolest_142 (fun x142 => ?_)
          refine tq_goto dX8_coolest_143 rfl ?_
          exact tq_ireturn dX8_coolest_160 rfl rfl
      · refine tq_iconst (v := (-1)) dX8_coolest_131 (by decide) ?_
        refine tq_goto dX8_coolest_132 rfl ?_
        exact tq_ireturn dX8_coolest_160 rfl rfl
    · refine tq_iconst (v := (-1)) dX8_coolest_22 (by decide) ?_
      exact tq_ireturn dX8_coolest_23 rfl rfl
abbrev Pfm_turned_b4 (G : ai_G) (d M : Nat) (h0 : ai_H) (s : mS) (v1 : Int32) : (Int32 × Int32) ⊕ Int32 → Option ai_R → Prop := Sum.elim (fun (q : Int32 × Int32) run => ∃ J : Unit, run = ai_run G (d + 1) 215 4 [some (.ref M), some (.int v1), some (.int q.1), some (.int q.2)] [] (mH M s h0)) (fun (q : Int32) run => ∃ J : JV × JV × JV, run = ai_run G (d + 1) 215 35 [J.1.1, J.2.1.1, some (.int q), J.2.2.1] [] (mH M s h0))
theorem Bfm_turned_b4 {G : ai_G} {d M : Nat} {h0 : ai_H} (s : mS) (v1 : Int32) (b0 : Int32) (b1 : Int32) (J : Unit) : Tj G (d + 1) 215 (Pfm_turned_b4 G d M h0 s v1) (some (.inl (b0, b1))) 4 [some (.ref M), some (.int v1), some (.int b0), some (.int b1)] [] (mH M s h0) := tq_back J rfl rfl
theorem Efm_turned_b4 {G : ai_G} {d M : Nat} {h0 : ai_H} (s : mS) (v1 : Int32) (b0 : Int32) (J : JV × JV × JV) : Tj G (d + 1) 215 (Pfm_turned_b4 G d M h0 s v1) (some (.inr b0)) 35 [J.1.1, J.2.1.1, some (.int b0), J.2.2.1] [] (mH M s h0) := tq_exit J rfl rfl
theorem wfm_turned_b4 {G : ai_G} {d M : Nat} {h0 : ai_H} (s : mS) (v1 : Int32) (q : Int32 × Int32) (J : Unit) : Tj G (d + 1) 215 (Pfm_turned_b4 G d M h0 s v1) (fm_turned_b4 s v1 q) 4 [some (.ref M), some (.int v1), some (.int q.1), some (.int q.2)] [] (mH M s h0) := by
  unfold fm_turned_b4
  refine tq_iload_n dX8_turned_4 rfl ?_
  refine tq_iload_n dX8_turned_5 rfl ?_
  refine tq_icmp_ge dX8_turned_6 rfl ?_ ?_
  · exact Efm_turned_b4 _ _ _ (⟨some (.ref M), rfl⟩, ⟨some (.int v1), rfl⟩, ⟨some (.int q.2), rfl⟩)
  · refine tq_iload_n dX8_turned_9 rfl ?_
    refine tq_aload_n dX8_turned_10 rfl ?_
    refine tm_ga (j := 25) dX8_turned_11 rfl rfl ?_
    refine tq_iload_n dX8_turned_14 rfl ?_
    refine tm_ild dX8_turned_15 rfl (fun x15 => ?_)
    refine tq_if_eq dX8_turned_16 rfl ?_ ?_
    · refine tq_iconst (v := 0) dX8_turned_23 (by decide) ?_
      refine ts_c1_i dX8_turned_24 rfl rfl rfl (Nat.le_of_ble_eq_true rfl) (wfm_truth (d := d) _) (fun p24 => ?_)
      refine tq_iadd dX8_turned_27 ?_
      refine tq_istore_n (L' := [_, _, _, _]) dX8_turned_28 (Nat.le_of_ble_eq_true rfl) rfl ?_
      refine tq_iinc (v := (q.2 + 1)) (L' := [_, _, _, _]) dX8_turned_29 rfl (Nat.le_of_ble_eq_true rfl) rfl rfl ?_
      refine tq_goto dX8_turned_32 rfl ?_
      exact Bfm_turned_b4 _ _ _ _ ()
    · refine tq_iconst (v := 1) dX8_turned_19 (by decide) ?_
      refine tq_goto dX8_turned_20 rfl ?_
      refine ts_c1_i dX8_turned_24 rfl rfl rfl (Nat.le_of_ble_eq_true rfl) (wfm_truth (d := d) _) (fun p24 => ?_)
      refine tq_iadd dX8_turned_27 ?_
      refine tq_istore_n (L' := [_, _, _, _]) dX8_turned_28 (Nat.le_of_ble_eq_true rfl) rfl ?_
      refine tq_iinc (v := (q.2 + 1)) (L' := [_, _, _, _]) dX8_turned_29 rfl (Nat.le_of_ble_eq_true rfl) rfl rfl ?_
      refine tq_goto dX8_turned_32 rfl ?_
      exact Bfm_turned_b4 _ _ _ _ ()
theorem Sfm_turned_b4 {G : ai_G} {d M : Nat} {h0 : ai_H} {α : Type} {P : α → Option ai_R → Prop} (s : mS) (v1 : Int32) (b0 : Int32) (b1 : Int32) (J : Unit) {r : Int32 → Option α} (kk : ∀ (q : Int32) (J : JV × JV × JV), Tj G (d + 1) 215 P (r q) 35 [J.1.1, J.2.1.1, some (.int q), J.2.2.1] [] (mH M s h0)) : Tj G (d + 1) 215 P ((lp (fm_turned_b4 s v1) (b0, b1)).bind r) 4 [some (.ref M), some (.int v1), some (.int b0), some (.int b1)] [] (mH M s h0) := tq_lp1 (J := J) (fun q J => wfm_turned_b4 s v1 q J) rfl rfl kk
theorem wfm_turned {G : ai_G} {d M : Nat} {h0 : ai_H} (s : mS) (v1 : Int32) : ∀ r, fm_turned s v1 = some r → (Pi (mH M s h0)) r (ai_call G (d + 2) 215 [.ref M, .int v1] (mH M s h0)) := by
  refine tq_meth (P := (Pi (mH M s h0))) (d := (d + 1)) (Nat.le_of_ble_eq_true rfl) ?_
  show Tj G (d + 1) 215 (Pi (mH M s h0)) (fm_turned s v1) 0 [some (.ref M), some (.int v1), none, none] [] (mH M s h0)
  unfold fm_turned
  refine tq_iconst (v := 0) dX8_turned_0 (by decide) ?_
  refine tq_istore_n (L' := [_, _, _, _]) dX8_turned_1 (Nat.le_of_ble_eq_true rfl) rfl ?_
  refine tq_iconst (v := 0) dX8_turned_2 (by decide) ?_
  refine tq_istore_n (L' := [_, _, _, _]) dX8_turned_3 (Nat.le_of_ble_eq_true rfl) rfl ?_
  refine Sfm_turned_b4 _ _ _ _ () (fun q4 J4 => ?_)
  refine tq_iload_n dX8_turned_35 rfl ?_
  exact tq_ireturn dX8_turned_36 rfl rfl
abbrev Pfm_straight_b36 (G : ai_G) (d M : Nat) (h0 : ai_H) (v1 : Int32) (v2 : Int32) : (Int32 × Int32 × mS) ⊕ (Int32 × mS) → Option ai_R → Prop := Sum.elim (fun (q : Int32 × Int32 × mS) run => ∃ J : Unit, run = ai_run G (d + 5) 216 36 [some (.ref M), some (.int v1), some (.int v2), some (.int q.1), some (.int q.2.1)] [] (mH M q.2.2 h0)) (fun (q : Int32 × mS) run => ∃ J : JV × JV × JV × JV, run = ai_run G (d + 5) 216 107 [J.1.1, J.2.1.1, J.2.2.1.1, some (.int q.1), J.2.2.2.1] [] (mH M q.2 h0))
theorem Bfm_straight_b36 {G : ai_G} {d M : Nat} {h0 : ai_H} (v1 : Int32) (v2 : Int32) (b0 : Int32) (b1 : Int32) (b2 : mS) (J : Unit) : Tj G (d + 5) 216 (Pfm_straight_b36 G d M h0 v1 v2) (some (.inl (b0, b1, b2))) 36 [some (.ref M), some (.int v1), some (.int v2), some (.int b0), some (.int b1)] [] (mH M b2 h0) := tq_back J rfl rfl
theorem Efm_straight_b36 {G : ai_G} {d M : Nat} {h0 : ai_H} (v1 : Int32) (v2 : Int32) (b0 : Int32) (b1 : mS) (J : JV × JV × JV × JV) : Tj G (d + 5) 216 (Pfm_straight_b36 G d M h0 v1 v2) (some (.inr (b0, b1))) 107 [J.1.1, J.2.1.1, J.2.2.1.1, some (.int b0), J.2.2.2.1] [] (mH M b1 h0) := tq_exit J rfl rfl
theorem wfm_straight_b36 {G : ai_G} {d M : Nat} {h0 : ai_H} (v1 : Int32) (v2 : Int32) (q : Int32 × Int32 × mS) (J : Unit) : Tj G (d + 5) 216 (Pfm_straight_b36 G d M h0 v1 v2) (fm_straight_b36 v1 v2 q) 36 [some (.ref M), some (.int v1), some (.int v2), some (.int q.1), some (.int q.2.1)] [] (mH M q.2.2 h0) := by
  unfold fm_straight_b36
  refine tq_iload dX8_straight_36 rfl ?_
  refine tq_iconst (v := 3) dX8_straight_38 (by decide) ?_
  refine tq_aload_n dX8_straight_39 rfl ?_
  refine tq_iload_n dX8_straight_40 rfl ?_
  refine tm_c1_i dX8_straight_41 rfl rfl rfl (Nat.le_of_ble_eq_true rfl) (wfm_leftOf (d := d + 4) _ _) (fun p41 => ?_)
  refine ts_c2_i dX8_straight_44 rfl rfl rfl (Nat.le_of_ble_eq_true rfl) (wfm_power (d := d + 4) _ _) (fun p44 => ?_)
  refine tq_icmp_ge dX8_straight_47 rfl ?_ ?_
  · exact Efm_straight_b36 _ _ _ _ (⟨some (.ref M), rfl⟩, ⟨some (.int v1), rfl⟩, ⟨some (.int v2), rfl⟩, ⟨some (.int q.2.1), rfl⟩)
  · refine tq_aload_n dX8_straight_50 rfl ?_
    refine tq_iload_n dX8_straight_51 rfl ?_
    refine tq_iload dX8_straight_52 rfl ?_
    refine tm_c2_I dX8_straight_54 rfl rfl rfl (Nat.le_of_ble_eq_true rfl) (wfm_goRow (d := d) _ _ _) (fun p54 => ?_)
    refine tq_if_eq dX8_straight_57 rfl ?_ ?_
    · refine tq_iinc (v := (q.2.1 + 1)) (L' := [_, _, _, _, _]) dX8_straight_101 rfl (Nat.le_of_ble_eq_true rfl) rfl rfl ?_
      refine tq_goto dX8_straight_104 rfl ?_
      exact Bfm_straight_b36 _ _ _ _ _ ()
    · refine tq_aload_n dX8_straight_60 rfl ?_
      refine tm_ga (j := 23) dX8_straight_61 rfl rfl ?_
      refine tq_iload_n dX8_straight_64 rfl ?_
      refine tm_ild dX8_straight_65 rfl (fun x65 => ?_)
      refine tq_iload_n dX8_straight_66 rfl ?_
      refine tq_icmp_ne dX8_straight_67 rfl ?_ ?_
      · refine tq_iinc (v := (q.2.1 + 1)) (L' := [_, _, _, _, _]) dX8_straight_101 rfl (Nat.le_of_ble_eq_true rfl) rfl rfl ?_
        refine tq_goto dX8_straight_104 rfl ?_
        exact Bfm_straight_b36 _ _ _ _ _ ()
      · refine tq_aload_n dX8_straight_70 rfl ?_
        refine tq_aload_n dX8_straight_71 rfl ?_
        refine tq_iload_n dX8_straight_72 rfl ?_
        refine tm_c1_i dX8_straight_73 rfl rfl rfl (Nat.le_of_ble_eq_true rfl) (wfm_leftOf (d := d + 4) _ _) (fun p73 => ?_)
        refine tm_c1_i dX8_straight_76 rfl rfl rfl (Nat.le_of_ble_eq_true rfl) (wfm_turned (d := d + 3) _ _) (fun p76 => ?_)
        refine tq_iload_n dX8_straight_79 rfl ?_
        refine tq_icmp_lt dX8_straight_80 rfl ?_ ?_
        · refine tq_aload_n dX8_straight_86 rfl ?_
          refine tq_aload_n dX8_straight_87 rfl ?_
          refine tq_iload_n dX8_straight_88 rfl ?_
          refine tm_c1_i dX8_straight_89 rfl rfl rfl (Nat.le_of_ble_eq_true rfl) (wfm_leftOf (d := d + 4) _ _) (fun p89 => ?_)
          refine tm_c1_i dX8_straight_92 rfl rfl rfl (Nat.le_of_ble_eq_true rfl) (wfm_turned (d := d + 3) _ _) (fun p92 => ?_)
          refine tq_istore_n (L' := [_, _, _, _, _]) dX8_straight_95 (Nat.le_of_ble_eq_true rfl) rfl ?_
          refine tq_aload_n dX8_straight_96 rfl ?_
          refine tq_iload_n dX8_straight_97 rfl ?_
          refine tm_c1_V dX8_straight_98 rfl rfl rfl (Nat.le_of_ble_eq_true rfl) (wfm_putSteers (d := d + 3) _ _) (fun p98 => ?_)
          refine tq_iinc (v := (q.2.1 + 1)) (L' := [_, _, _, _, _]) dX8_straight_101 rfl (Nat.le_of_ble_eq_true rfl) rfl rfl ?_
          refine tq_goto dX8_straight_104 rfl ?_
          exact Bfm_straight_b36 _ _ _ _ _ ()
        · refine tq_goto dX8_straight_83 rfl ?_
          refine tq_iinc (v := (q.2.1 + 1)) (L' := [_, _, _, _, _]) dX8_straight_101 rfl (Nat.le_of_ble_eq_true rfl) rfl rfl ?_
          refine tq_goto dX8_straight_104 rfl ?_
          exact Bfm_straight_b36 _ _ _ _ _ ()
theorem Sfm_straight_b36 {G : ai_G} {d M : Nat} {h0 : ai_H} {α : Type} {P : α → Option ai_R → Prop} (v1 : Int32) (v2 : Int32) (b0 : Int32) (b1 : Int32) (b2 : mS) (J : Unit) {r : (Int32 × mS) → Option α} (kk : ∀ (q : Int32 × mS) (J : JV × JV × JV × JV), Tj G (d + 5) 216 P (r q) 107 [J.1.1, J.2.1.1, J.2.2.1.1, some (.int q.1), J.2.2.2.1] [] (mH M q.2 h0)) : Tj G (d + 5) 216 P ((lp (fm_straight_b36 v1 v2) (b0, b1, b2)).bind r) 36 [some (.ref M), some (.int v1), some (.int v2), some (.int b0), some (.int b1)] [] (mH M b2 h0) := tq_lp1 (J := J) (fun q J => wfm_straight_b36 v1 v2 q J) rfl rfl kk
theorem wfm_straight {G : ai_G} {d M : Nat} {h0 : ai_H} (s : mS) (v1 : Int32) (v2 : Int32) : ∀ r, fm_straight s v1 v2 = some r → (PmI M h0) r (ai_call G (d + 6) 216 [.ref M, .int v1, .int v2] (mH M s h0)) := by
  refine tq_meth (P := (PmI M h0)) (d := (d + 5)) (Nat.le_of_ble_eq_true rfl) ?_
  show Tj G (d + 5) 216 (PmI M h0) (fm_straight s v1 v2) 0 [some (.ref M), some (.int v1), some (.int v2), none, none] [] (mH M s h0)
  unfold fm_straight
  refine tq_aload_n dX8_straight_0 rfl ?_
  refine tq_iconst (v := 0) dX8_straight_1 (by decide) ?_
  refine tm_pi dX8_straight_2 rfl rfl (fun s2 => ?_)
  refine tq_aload_n dX8_straight_5 rfl ?_
  refine tq_iload_n dX8_straight_6 rfl ?_
  refine tm_c1_i dX8_straight_7 rfl rfl rfl (Nat.le_of_ble_eq_true rfl) (wfm_isBoard (d := d + 3) _ _) (fun p7 => ?_)
  refine tq_if_eq dX8_straight_10 rfl ?_ ?_
  · refine tq_iconst (v := (-1)) dX8_straight_27 (by decide) ?_
    exact tq_ireturn dX8_straight_28 rfl rfl
  · refine tq_iload_n dX8_straight_13 rfl ?_
    refine tq_iconst (v := 0) dX8_straight_14 (by decide) ?_
    refine tq_aload_n dX8_straight_15 rfl ?_
    refine tm_gi (k9 := 46) dX8_straight_16 rfl rfl ?_
    refine tq_iconst (v := 1) dX8_straight_19 (by decide) ?_
    refine tq_isub dX8_straight_20 ?_
    refine ts_c3_i dX8_straight_21 rfl rfl rfl (Nat.le_of_ble_eq_true rfl) (wfm_isIn (d := d + 4) _ _ _) (fun p21 => ?_)
    refine tq_if_ne dX8_straight_24 rfl ?_ ?_
    · refine tq_ldc_w (v := .int 1000000) dX8_straight_29 rfl rfl ?_
      refine tq_istore_n (L' := [_, _, _, _, _]) dX8_straight_32 (Nat.le_of_ble_eq_true rfl) rfl ?_
      refine tq_iconst (v := 0) dX8_straight_33 (by decide) ?_
      refine tq_istore (L' := [_, _, _, _, _]) dX8_straight_34 (Nat.le_of_ble_eq_true rfl) rfl ?_
      refine Sfm_straight_b36 _ _ _ _ _ () (fun q36 J36 => ?_)
      refine tq_iload_n dX8_straight_107 rfl ?_
      refine tq_ldc_w (v := .int 1000000) dX8_straight_108 rfl rfl ?_
      refine tq_icmp_ne dX8_straight_111 rfl ?_ ?_
      · refine tq_iload_n dX8_straight_118 rfl ?_
        exact tq_ireturn dX8_straight_119 rfl rfl
      · refine tq_iconst (v := (-1)) dX8_straight_114 (by decide) ?_
        refine tq_goto dX8_straight_115 rfl ?_
        exact tq_ireturn dX8_straight_119 rfl rfl
    · refine tq_iconst (v := (-1)) dX8_straight_27 (by decide) ?_
      exact tq_ireturn dX8_straight_28 rfl rfl
abbrev Pfm_wideOf_b4 (G : ai_G) (d M : Nat) (h0 : ai_H) (s : mS) (v1 : Int32) : (Int32 × Int32) ⊕ Int32 → Option ai_R → Prop := Sum.elim (fun (q : Int32 × Int32) run => ∃ J : Unit, run = ai_run G d 218 4 [some (.ref M), some (.int v1), some (.int q.1), some (.int q.2)] [] (mH M s h0)) (fun (q : Int32) run => ∃ J : JV × JV × JV, run = ai_run G d 218 40 [J.1.1, J.2.1.1, some (.int q), J.2.2.1] [] (mH M s h0))
theorem Bfm_wideOf_b4 {G : ai_G} {d M : Nat} {h0 : ai_H} (s : mS) (v1 : Int32) (b0 : Int32) (b1 : Int32) (J : Unit) : Tj G d 218 (Pfm_wideOf_b4 G d M h0 s v1) (some (.inl (b0, b1))) 4 [some (.ref M), some (.int v1), some (.int b0), some (.int b1)] [] (mH M s h0) := tq_back J rfl rfl
theorem Efm_wideOf_b4 {G : ai_G} {d M : Nat} {h0 : ai_H} (s : mS) (v1 : Int32) (b0 : Int32) (J : JV × JV × JV) : Tj G d 218 (Pfm_wideOf_b4 G d M h0 s v1) (some (.inr b0)) 40 [J.1.1, J.2.1.1, some (.int b0), J.2.2.1] [] (mH M s h0) := tq_exit J rfl rfl
theorem wfm_wideOf_b4 {G : ai_G} {d M : Nat} {h0 : ai_H} (s : mS) (v1 : Int32) (q : Int32 × Int32) (J : Unit) : Tj G d 218 (Pfm_wideOf_b4 G d M h0 s v1) (fm_wideOf_b4 s v1 q) 4 [some (.ref M), some (.int v1), some (.int q.1), some (.int q.2)] [] (mH M s h0) := by
  unfold fm_wideOf_b4
  refine tq_iload_n dX8_wideOf_4 rfl ?_
  refine tq_aload_n dX8_wideOf_5 rfl ?_
  refine tm_gi (k9 := 49) dX8_wideOf_6 rfl rfl ?_
  refine tq_icmp_ge dX8_wideOf_9 rfl ?_ ?_
  · exact Efm_wideOf_b4 _ _ _ (⟨some (.ref M), rfl⟩, ⟨some (.int v1), rfl⟩, ⟨some (.int q.2), rfl⟩)
  · refine tq_iload_n dX8_wideOf_12 rfl ?_
    refine tq_iload_n dX8_wideOf_13 rfl ?_
    refine tq_iload_n dX8_wideOf_14 rfl ?_
    refine tq_ishr dX8_wideOf_15 ?_
    refine tq_iconst (v := 1) dX8_wideOf_16 (by decide) ?_
    refine tq_iand dX8_wideOf_17 ?_
    refine tq_iconst (v := 1) dX8_wideOf_18 (by decide) ?_
    refine tq_icmp_ne dX8_wideOf_19 rfl ?_ ?_
    · refine tq_iconst (v := 0) dX8_wideOf_31 (by decide) ?_
      refine tq_iadd dX8_wideOf_32 ?_
      refine tq_istore_n (L' := [_, _, _, _]) dX8_wideOf_33 (Nat.le_of_ble_eq_true rfl) rfl ?_
      refine tq_iinc (v := (q.2 + 1)) (L' := [_, _, _, _]) dX8_wideOf_34 rfl (Nat.le_of_ble_eq_true rfl) rfl rfl ?_
      refine tq_goto dX8_wideOf_37 rfl ?_
      exact Bfm_wideOf_b4 _ _ _ _ ()
    · refine tq_aload_n dX8_wideOf_22 rfl ?_
      refine tm_ga (j := 21) dX8_wideOf_23 rfl rfl ?_
      refine tq_iload_n dX8_wideOf_26 rfl ?_
      refine tm_ild dX8_wideOf_27 rfl (fun x27 => ?_)
      refine tq_goto dX8_wideOf_28 rfl ?_
      refine tq_iadd dX8_wideOf_32 ?_
      refine tq_istore_n (L' := [_, _, _, _]) dX8_wideOf_33 (Nat.le_of_ble_eq_true rfl) rfl ?_
      refine tq_iinc (v := (q.2 + 1)) (L' := [_, _, _, _]) dX8_wideOf_34 rfl (Nat.le_of_ble_eq_true rfl) rfl rfl ?_
      refine tq_goto dX8_wideOf_37 rfl ?_
      exact Bfm_wideOf_b4 _ _ _ _ ()
theorem Sfm_wideOf_b4 {G : ai_G} {d M : Nat} {h0 : ai_H} {α : Type} {P : α → Option ai_R → Prop} (s : mS) (v1 : Int32) (b0 : Int32) (b1 : Int32) (J : Unit) {r : Int32 → Option α} (kk : ∀ (q : Int32) (J : JV × JV × JV), Tj G d 218 P (r q) 40 [J.1.1, J.2.1.1, some (.int q), J.2.2.1] [] (mH M s h0)) : Tj G d 218 P ((lp (fm_wideOf_b4 s v1) (b0, b1)).bind r) 4 [some (.ref M), some (.int v1), some (.int b0), some (.int b1)] [] (mH M s h0) := tq_lp1 (J := J) (fun q J => wfm_wideOf_b4 s v1 q J) rfl rfl kk
theorem wfm_wideOf {G : ai_G} {d M : Nat} {h0 : ai_H} (s : mS) (v1 : Int32) : ∀ r, fm_wideOf s v1 = some r → (Pi (mH M s h0)) r (ai_call G (d + 1) 218 [.ref M, .int v1] (mH M s h0)) := by
  refine tq_meth (P := (Pi (mH M s h0))) (d := d) (Nat.le_of_ble_eq_true rfl) ?_
  show Tj G d 218 (Pi (mH M s h0)) (fm_wideOf s v1) 0 [some (.ref M), some (.int v1), none, none] [] (mH M s h0)
  unfold fm_wideOf
  refine tq_iconst (v := 0) dX8_wideOf_0 (by decide) ?_
  refine tq_istore_n (L' := [_, _, _, _]) dX8_wideOf_1 (Nat.le_of_ble_eq_true rfl) rfl ?_
  refine tq_iconst (v := 0) dX8_wideOf_2 (by decide) ?_
  refine tq_istore_n (L' := [_, _, _, _]) dX8_wideOf_3 (Nat.le_of_ble_eq_true rfl) rfl ?_
  refine Sfm_wideOf_b4 _ _ _ _ () (fun q4 J4 => ?_)
  refine tq_iload_n dX8_wideOf_40 rfl ?_
  exact tq_ireturn dX8_wideOf_41 rfl rfl
abbrev Pfm_widest_b54 (G : ai_G) (d M : Nat) (h0 : ai_H) (s : mS) (v1 : Int32) (v2 : Int32) (v3 : Int32) : (Int32 × Int32) ⊕ Int32 → Option ai_R → Prop := Sum.elim (fun (q : Int32 × Int32) run => ∃ J : Unit, run = ai_run G (d + 2) 219 54 [some (.ref M), some (.int v1), some (.int v2), some (.int v3), some (.int q.1), some (.int q.2)] [] (mH M s h0)) (fun (q : Int32) run => ∃ J : JV × JV × JV, run = ai_run G (d + 2) 219 115 [some (.ref M), J.1.1, some (.int v2), J.2.1.1, some (.int q), J.2.2.1] [] (mH M s h0))
theorem Bfm_widest_b54 {G : ai_G} {d M : Nat} {h0 : ai_H} (s : mS) (v1 : Int32) (v2 : Int32) (v3 : Int32) (b0 : Int32) (b1 : Int32) (J : Unit) : Tj G (d + 2) 219 (Pfm_widest_b54 G d M h0 s v1 v2 v3) (some (.inl (b0, b1))) 54 [some (.ref M), some (.int v1), some (.int v2), some (.int v3), some (.int b0), some (.int b1)] [] (mH M s h0) := tq_back J rfl rfl
theorem Efm_widest_b54 {G : ai_G} {d M : Nat} {h0 : ai_H} (s : mS) (v1 : Int32) (v2 : Int32) (v3 : Int32) (b0 : Int32) (J : JV × JV × JV) : Tj G (d + 2) 219 (Pfm_widest_b54 G d M h0 s v1 v2 v3) (some (.inr b0)) 115 [some (.ref M), J.1.1, some (.int v2), J.2.1.1, some (.int b0), J.2.2.1] [] (mH M s h0) := tq_exit J rfl rfl
theorem wfm_widest_b54 {G : ai_G} {d M : Nat} {h0 : ai_H} (s : mS) (v1 : Int32) (v2 : Int32) (v3 : Int32) (q : Int32 × Int32) (J : Unit) : Tj G (d + 2) 219 (Pfm_widest_b54 G d M h0 s v1 v2 v3) (fm_widest_b54 s v1 v2 v3 q) 54 [some (.ref M), some (.int v1), some (.int v2), some (.int v3), some (.int q.1), some (.int q.2)] [] (mH M s h0) := by
  unfold fm_widest_b54
  refine tq_iload dX8_widest_54 rfl ?_
  refine tq_iload_n dX8_widest_56 rfl ?_
  refine tq_icmp_gt dX8_widest_57 rfl ?_ ?_
  · exact Efm_widest_b54 _ _ _ _ _ (⟨some (.int v1), rfl⟩, ⟨some (.int v3), rfl⟩, ⟨some (.int q.2), rfl⟩)
  · refine tq_iload dX8_widest_60 rfl ?_
    refine tq_iload_n dX8_widest_62 rfl ?_
    refine tq_iconst (v := (-1)) dX8_widest_63 (by decide) ?_
    refine tq_ixor dX8_widest_64 ?_
    refine tq_iand dX8_widest_65 ?_
    refine tq_if_ne dX8_widest_66 rfl ?_ ?_
    · refine tq_iinc (v := (q.2 + 1)) (L' := [_, _, _, _, _, _]) dX8_widest_109 rfl (Nat.le_of_ble_eq_true rfl) rfl rfl ?_
      refine tq_goto dX8_widest_112 rfl ?_
      exact Bfm_widest_b54 _ _ _ _ _ _ ()
    · refine tq_aload_n dX8_widest_69 rfl ?_
      refine tq_iload_n dX8_widest_70 rfl ?_
      refine tm_c1_i dX8_widest_71 rfl rfl rfl (Nat.le_of_ble_eq_true rfl) (wfm_burdenOf (d := d + 1) _ _) (fun p71 => ?_)
      refine tq_aload_n dX8_widest_74 rfl ?_
      refine tq_iload dX8_widest_75 rfl ?_
      refine tm_c1_i dX8_widest_77 rfl rfl rfl (Nat.le_of_ble_eq_true rfl) (wfm_wideOf (d := d + 1) _ _) (fun p77 => ?_)
      refine tq_iadd dX8_widest_80 ?_
      refine tq_aload_n dX8_widest_81 rfl ?_
      refine tm_ga (j := 18) dX8_widest_82 rfl rfl ?_
      refine tq_iload_n dX8_widest_85 rfl ?_
      refine tm_ild dX8_widest_86 rfl (fun x86 => ?_)
      refine tq_icmp_gt dX8_widest_87 rfl ?_ ?_
      · refine tq_iinc (v := (q.2 + 1)) (L' := [_, _, _, _, _, _]) dX8_widest_109 rfl (Nat.le_of_ble_eq_true rfl) rfl rfl ?_
        refine tq_goto dX8_widest_112 rfl ?_
        exact Bfm_widest_b54 _ _ _ _ _ _ ()
      · refine tq_aload_n dX8_widest_90 rfl ?_
        refine tq_iload dX8_widest_91 rfl ?_
        refine tm_c1_i dX8_widest_93 rfl rfl rfl (Nat.le_of_ble_eq_true rfl) (wfm_wideOf (d := d + 1) _ _) (fun p93 => ?_)
        refine tq_aload_n dX8_widest_96 rfl ?_
        refine tq_iload dX8_widest_97 rfl ?_
        refine tm_c1_i dX8_widest_99 rfl rfl rfl (Nat.le_of_ble_eq_true rfl) (wfm_wideOf (d := d + 1) _ _) (fun p99 => ?_)
        refine tq_icmp_le dX8_widest_102 rfl ?_ ?_
        · refine tq_iinc (v := (q.2 + 1)) (L' := [_, _, _, _, _, _]) dX8_widest_109 rfl (Nat.le_of_ble_eq_true rfl) rfl rfl ?_
          refine tq_goto dX8_widest_112 rfl ?_
          exact Bfm_widest_b54 _ _ _ _ _ _ ()
        · refine tq_iload dX8_widest_105 rfl ?_
          refine tq_istore (L' := [_, _, _, _, _, _]) dX8_widest_107 (Nat.le_of_ble_eq_true rfl) rfl ?_
          refine tq_iinc (v := (q.2 + 1)) (L' := [_, _, _, _, _, _]) dX8_widest_109 rfl (Nat.le_of_ble_eq_true rfl) rfl rfl ?_
          refine tq_goto dX8_widest_112 rfl ?_
          exact Bfm_widest_b54 _ _ _ _ _ _ ()
theorem Sfm_widest_b54 {G : ai_G} {d M : Nat} {h0 : ai_H} {α : Type} {P : α → Option ai_R → Prop} (s : mS) (v1 : Int32) (v2 : Int32) (v3 : Int32) (b0 : Int32) (b1 : Int32) (J : Unit) {r : Int32 → Option α} (kk : ∀ (q : Int32) (J : JV × JV × JV), Tj G (d + 2) 219 P (r q) 115 [some (.ref M), J.1.1, some (.int v2), J.2.1.1, some (.int q), J.2.2.1] [] (mH M s h0)) : Tj G (d + 2) 219 P ((lp (fm_widest_b54 s v1 v2 v3) (b0, b1)).bind r) 54 [some (.ref M), some (.int v1), some (.int v2), some (.int v3), some (.int b0), some (.int b1)] [] (mH M s h0) := tq_lp1 (J := J) (fun q J => wfm_widest_b54 s v1 v2 v3 q J) rfl rfl kk
theorem wfm_widest {G : ai_G} {d M : Nat} {h0 : ai_H} (s : mS) (v1 : Int32) (v2 : Int32) : ∀ r, fm_widest s v1 v2 = some r → (PmI M h0) r (ai_call G (d + 3) 219 [.ref M, .int v1, .int v2] (mH M s h0)) := by
  refine tq_meth (P := (PmI M h0)) (d := (d + 2)) (Nat.le_of_ble_eq_true rfl) ?_
  show Tj G (d + 2) 219 (PmI M h0) (fm_widest s v1 v2) 0 [some (.ref M), some (.int v1), some (.int v2), none, none, none] [] (mH M s h0)
  unfold fm_widest
  refine tq_aload_n dX8_widest_0 rfl ?_
  refine tq_iload_n dX8_widest_1 rfl ?_
  refine tm_c1_i dX8_widest_2 rfl rfl rfl (Nat.le_of_ble_eq_true rfl) (wfm_isBoard (d := d) _ _) (fun p2 => ?_)
  refine tq_if_eq dX8_widest_5 rfl ?_ ?_
  · refine tq_iconst (v := (-1)) dX8_widest_25 (by decide) ?_
    exact tq_ireturn dX8_widest_26 rfl rfl
  · refine tq_aload_n dX8_widest_8 rfl ?_
    refine tq_iload_n dX8_widest_9 rfl ?_
    refine tm_c1_i dX8_widest_10 rfl rfl rfl (Nat.le_of_ble_eq_true rfl) (wfm_isAtBank (d := d + 1) _ _) (fun p10 => ?_)
    refine tq_if_eq dX8_widest_13 rfl ?_ ?_
    · refine tq_iconst (v := (-1)) dX8_widest_25 (by decide) ?_
      exact tq_ireturn dX8_widest_26 rfl rfl
    · refine tq_iload_n dX8_widest_16 rfl ?_
      refine tq_iconst (v := 0) dX8_widest_17 (by decide) ?_
      refine tq_iconst (v := 1) dX8_widest_18 (by decide) ?_
      refine ts_c3_i dX8_widest_19 rfl rfl rfl (Nat.le_of_ble_eq_true rfl) (wfm_isIn (d := d + 1) _ _ _) (fun p19 => ?_)
      refine tq_if_ne dX8_widest_22 rfl ?_ ?_
      · refine tq_aload_n dX8_widest_27 rfl ?_
        refine tm_c0_V dX8_widest_28 rfl rfl rfl (Nat.le_of_ble_eq_true rfl) (wfm_fill (d := d + 1) _) (fun p28 => ?_)
        refine tq_aload_n dX8_widest_31 rfl ?_
        refine tq_aload_n dX8_widest_32 rfl ?_
        refine tq_aload_n dX8_widest_33 rfl ?_
        refine tm_ga (j := 22) dX8_widest_34 rfl rfl ?_
        refine tq_iconst (v := 4) dX8_widest_37 (by decide) ?_
        refine tq_iload_n dX8_widest_38 rfl ?_
        refine tq_iadd dX8_widest_39 ?_
        refine tm_ild dX8_widest_40 rfl (fun x40 => ?_)
        refine tm_c1_i dX8_widest_41 rfl rfl rfl (Nat.le_of_ble_eq_true rfl) (wfm_bankOf (d := d + 1) _ _) (fun p41 => ?_)
        refine tm_c1_i dX8_widest_44 rfl rfl rfl (Nat.le_of_ble_eq_true rfl) (wfm_loadsAt (d := d) _ _) (fun p44 => ?_)
        refine tq_istore_n (L' := [_, _, _, _, _, _]) dX8_widest_47 (Nat.le_of_ble_eq_true rfl) rfl ?_
        refine tq_iconst (v := 0) dX8_widest_48 (by decide) ?_
        refine tq_istore (L' := [_, _, _, _, _, _]) dX8_widest_49 (Nat.le_of_ble_eq_true rfl) rfl ?_
        refine tq_iconst (v := 1) dX8_widest_51 (by decide) ?_
        refine tq_istore (L' := [_, _, _, _, _, _]) dX8_widest_52 (Nat.le_of_ble_eq_true rfl) rfl ?_
        refine Sfm_widest_b54 _ _ _ _ _ _ () (fun q54 J54 => ?_)
        refine tq_iload_n dX8_widest_115 rfl ?_
        refine tq_if_ne dX8_widest_116 rfl ?_ ?_
        · refine tq_iload dX8_widest_128 rfl ?_
          exact tq_ireturn dX8_widest_130 rfl rfl
        · refine tq_aload_n dX8_widest_119 rfl ?_
          refine tq_iload dX8_widest_120 rfl ?_
          refine tm_c1_i dX8_widest_122 rfl rfl rfl (Nat.le_of_ble_eq_true rfl) (wfm_wideOf (d := d + 1) _ _) (fun p122 => ?_)
          refine tq_goto dX8_widest_125 rfl ?_
          exact tq_ireturn dX8_widest_130 rfl rfl
      · refine tq_iconst (v := (-1)) dX8_widest_25 (by decide) ?_
        exact tq_ireturn dX8_widest_26 rfl rfl
theorem wfm_nearLoads {G : ai_G} {d M : Nat} {h0 : ai_H} (s : mS) : ∀ r, fm_nearLoads s = some r → (PmI M h0) r (ai_call G (d + 3) 222 [.ref M] (mH M s h0)) := by
  refine tq_meth (P := (PmI M h0)) (d := (d + 2)) (Nat.le_of_ble_eq_true rfl) ?_
  show Tj G (d + 2) 222 (PmI M h0) (fm_nearLoads s) 0 [some (.ref M)] [] (mH M s h0)
  unfold fm_nearLoads
  refine tq_aload_n dX8_nearLoads_0 rfl ?_
  refine tm_c0_V dX8_nearLoads_1 rfl rfl rfl (Nat.le_of_ble_eq_true rfl) (wfm_fill (d := d + 1) _) (fun p1 => ?_)
  refine tq_aload_n dX8_nearLoads_4 rfl ?_
  refine tq_iconst (v := (-1)) dX8_nearLoads_5 (by decide) ?_
  refine tm_c1_i dX8_nearLoads_6 rfl rfl rfl (Nat.le_of_ble_eq_true rfl) (wfm_loadsAt (d := d) _ _) (fun p6 => ?_)
  exact tq_ireturn dX8_nearLoads_9 rfl rfl
abbrev Pfm_layBefore_b4 (G : ai_G) (d M : Nat) (h0 : ai_H) (v1 : Int32) : (Int32 × Int32 × mS) ⊕ (Int32 × mS) → Option ai_R → Prop := Sum.elim (fun (q : Int32 × Int32 × mS) run => ∃ J : Unit, run = ai_run G d 223 4 [some (.ref M), some (.int v1), some (.int q.1), some (.int q.2.1)] [] (mH M q.2.2 h0)) (fun (q : Int32 × mS) run => ∃ J : JV × JV × JV, run = ai_run G d 223 47 [J.1.1, J.2.1.1, some (.int q.1), J.2.2.1] [] (mH M q.2 h0))
theorem Bfm_layBefore_b4 {G : ai_G} {d M : Nat} {h0 : ai_H} (v1 : Int32) (b0 : Int32) (b1 : Int32) (b2 : mS) (J : Unit) : Tj G d 223 (Pfm_layBefore_b4 G d M h0 v1) (some (.inl (b0, b1, b2))) 4 [some (.ref M), some (.int v1), some (.int b0), some (.int b1)] [] (mH M b2 h0) := tq_back J rfl rfl
theorem Efm_layBefore_b4 {G : ai_G} {d M : Nat} {h0 : ai_H} (v1 : Int32) (b0 : Int32) (b1 : mS) (J : JV × JV × JV) : Tj G d 223 (Pfm_layBefore_b4 G d M h0 v1) (some (.inr (b0, b1))) 47 [J.1.1, J.2.1.1, some (.int b0), J.2.2.1] [] (mH M b1 h0) := tq_exit J rfl rfl
theorem wfm_layBefore_b4 {G : ai_G} {d M : Nat} {h0 : ai_H} (v1 : Int32) (q : Int32 × Int32 × mS) (J : Unit) : Tj G d 223 (Pfm_layBefore_b4 G d M h0 v1) (fm_layBefore_b4 v1 q) 4 [some (.ref M), some (.int v1), some (.int q.1), some (.int q.2.1)] [] (mH M q.2.2 h0) := by
  unfold fm_layBefore_b4
  refine tq_iload_n dX8_layBefore_4 rfl ?_
  refine tq_aload_n dX8_layBefore_5 rfl ?_
  refine tm_gi (k9 := 49) dX8_layBefore_6 rfl rfl ?_
  refine tq_icmp_ge dX8_layBefore_9 rfl ?_ ?_
  · exact Efm_layBefore_b4 _ _ _ (⟨some (.ref M), rfl⟩, ⟨some (.int v1), rfl⟩, ⟨some (.int q.2.1), rfl⟩)
  · refine tq_aload_n dX8_layBefore_12 rfl ?_
    refine tm_ga (j := 28) dX8_layBefore_13 rfl rfl ?_
    refine tq_iload_n dX8_layBefore_16 rfl ?_
    refine tq_iload_n dX8_layBefore_17 rfl ?_
    refine tm_ist dX8_layBefore_18 rfl (fun s18 => ?_)
    refine tq_iload_n dX8_layBefore_19 rfl ?_
    refine tq_iload_n dX8_layBefore_20 rfl ?_
    refine tq_ishr dX8_layBefore_21 ?_
    refine tq_iconst (v := 1) dX8_layBefore_22 (by decide) ?_
    refine tq_iand dX8_layBefore_23 ?_
    refine tq_iconst (v := 1) dX8_layBefore_24 (by decide) ?_
    refine tq_icmp_ne dX8_layBefore_25 rfl ?_ ?_
    · refine tq_iinc (v := (q.2.1 + 1)) (L' := [_, _, _, _]) dX8_layBefore_41 rfl (Nat.le_of_ble_eq_true rfl) rfl rfl ?_
      refine tq_goto dX8_layBefore_44 rfl ?_
      exact Bfm_layBefore_b4 _ _ _ _ ()
    · refine tq_aload_n dX8_layBefore_28 rfl ?_
      refine tm_ga (j := 27) dX8_layBefore_29 rfl rfl ?_
      refine tq_iload_n dX8_layBefore_32 rfl ?_
      refine tm_ild dX8_layBefore_33 rfl (fun x33 => ?_)
      refine tq_iload_n dX8_layBefore_34 rfl ?_
      refine tq_icmp_ne dX8_layBefore_35 rfl ?_ ?_
      · refine tq_iinc (v := (q.2.1 + 1)) (L' := [_, _, _, _]) dX8_layBefore_41 rfl (Nat.le_of_ble_eq_true rfl) rfl rfl ?_
        refine tq_goto dX8_layBefore_44 rfl ?_
        exact Bfm_layBefore_b4 _ _ _ _ ()
      · refine tq_iinc (v := (q.1 + 1)) (L' := [_, _, _, _]) dX8_layBefore_38 rfl (Nat.le_of_ble_eq_true rfl) rfl rfl ?_
        refine tq_iinc (v := (q.2.1 + 1)) (L' := [_, _, _, _]) dX8_layBefore_41 rfl (Nat.le_of_ble_eq_true rfl) rfl rfl ?_
        refine tq_goto dX8_layBefore_44 rfl ?_
        exact Bfm_layBefore_b4 _ _ _ _ ()
theorem Sfm_layBefore_b4 {G : ai_G} {d M : Nat} {h0 : ai_H} {α : Type} {P : α → Option ai_R → Prop} (v1 : Int32) (b0 : Int32) (b1 : Int32) (b2 : mS) (J : Unit) {r : (Int32 × mS) → Option α} (kk : ∀ (q : Int32 × mS) (J : JV × JV × JV), Tj G d 223 P (r q) 47 [J.1.1, J.2.1.1, some (.int q.1), J.2.2.1] [] (mH M q.2 h0)) : Tj G d 223 P ((lp (fm_layBefore_b4 v1) (b0, b1, b2)).bind r) 4 [some (.ref M), some (.int v1), some (.int b0), some (.int b1)] [] (mH M b2 h0) := tq_lp1 (J := J) (fun q J => wfm_layBefore_b4 v1 q J) rfl rfl kk
theorem wfm_layBefore {G : ai_G} {d M : Nat} {h0 : ai_H} (s : mS) (v1 : Int32) : ∀ r, fm_layBefore s v1 = some r → (PmI M h0) r (ai_call G (d + 1) 223 [.ref M, .int v1] (mH M s h0)) := by
  refine tq_meth (P := (PmI M h0)) (d := d) (Nat.le_of_ble_eq_true rfl) ?_
  show Tj G d 223 (PmI M h0) (fm_layBefore s v1) 0 [some (.ref M), some (.int v1), none, none] [] (mH M s h0)
  unfold fm_layBefore
  refine tq_iconst (v := 0) dX8_layBefore_0 (by decide) ?_
  refine tq_istore_n (L' := [_, _, _, _]) dX8_layBefore_1 (Nat.le_of_ble_eq_true rfl) rfl ?_
  refine tq_iconst (v := 0) dX8_layBefore_2 (by decide) ?_
  refine tq_istore_n (L' := [_, _, _, _]) dX8_layBefore_3 (Nat.le_of_ble_eq_true rfl) rfl ?_
  refine Sfm_layBefore_b4 _ _ _ _ () (fun q4 J4 => ?_)
  refine tq_iload_n dX8_layBefore_47 rfl ?_
  exact tq_ireturn dX8_layBefore_48 rfl rfl
abbrev Pfm_isFlat_b2 (G : ai_G) (d M : Nat) (h0 : ai_H) (v1 : Int32) (v2 : Int32) : (Int32 × mS) ⊕ mS → Option ai_R → Prop := Sum.elim (fun (q : Int32 × mS) run => ∃ J : JV, run = ai_run G d 224 2 [some (.ref M), some (.int v1), some (.int v2), some (.int q.1), J.1] [] (mH M q.2 h0)) (fun (q : mS) run => ∃ J : JV × JV, run = ai_run G d 224 21 [some (.ref M), some (.int v1), some (.int v2), J.1.1, J.2.1] [] (mH M q h0))
theorem Bfm_isFlat_b2 {G : ai_G} {d M : Nat} {h0 : ai_H} (v1 : Int32) (v2 : Int32) (b0 : Int32) (b1 : mS) (J : JV) : Tj G d 224 (Pfm_isFlat_b2 G d M h0 v1 v2) (some (.inl (b0, b1))) 2 [some (.ref M), some (.int v1), some (.int v2), some (.int b0), J.1] [] (mH M b1 h0) := tq_back J rfl rfl
theorem Efm_isFlat_b2 {G : ai_G} {d M : Nat} {h0 : ai_H} (v1 : Int32) (v2 : Int32) (b0 : mS) (J : JV × JV) : Tj G d 224 (Pfm_isFlat_b2 G d M h0 v1 v2) (some (.inr b0)) 21 [some (.ref M), some (.int v1), some (.int v2), J.1.1, J.2.1] [] (mH M b0 h0) := tq_exit J rfl rfl
theorem wfm_isFlat_b2 {G : ai_G} {d M : Nat} {h0 : ai_H} (v1 : Int32) (v2 : Int32) (q : Int32 × mS) (J : JV) : Tj G d 224 (Pfm_isFlat_b2 G d M h0 v1 v2) (fm_isFlat_b2 v1 v2 q) 2 [some (.ref M), some (.int v1), some (.int v2), some (.int q.1), J.1] [] (mH M q.2 h0) := by
  unfold fm_isFlat_b2
  refine tq_iload_n dX8_isFlat_2 rfl ?_
  refine tq_bipush (v := 8) dX8_isFlat_3 (by decide) ?_
  refine tq_icmp_ge dX8_isFlat_5 rfl ?_ ?_
  · exact Efm_isFlat_b2 _ _ _ (⟨some (.int q.1), rfl⟩, J)
  · refine tq_aload_n dX8_isFlat_8 rfl ?_
    refine tm_ga (j := 29) dX8_isFlat_9 rfl rfl ?_
    refine tq_iload_n dX8_isFlat_12 rfl ?_
    refine tq_iconst (v := 0) dX8_isFlat_13 (by decide) ?_
    refine tm_ist dX8_isFlat_14 rfl (fun s14 => ?_)
    refine tq_iinc (v := (q.1 + 1)) (L' := [_, _, _, _, _]) dX8_isFlat_15 rfl (Nat.le_of_ble_eq_true rfl) rfl rfl ?_
    refine tq_goto dX8_isFlat_18 rfl ?_
    exact Bfm_isFlat_b2 _ _ _ _ J
theorem Sfm_isFlat_b2 {G : ai_G} {d M : Nat} {h0 : ai_H} {α : Type} {P : α → Option ai_R → Prop} (v1 : Int32) (v2 : Int32) (b0 : Int32) (b1 : mS) (J : JV) {r : mS → Option α} (kk : ∀ (q : mS) (J : JV × JV), Tj G d 224 P (r q) 21 [some (.ref M), some (.int v1), some (.int v2), J.1.1, J.2.1] [] (mH M q h0)) : Tj G d 224 P ((lp (fm_isFlat_b2 v1 v2) (b0, b1)).bind r) 2 [some (.ref M), some (.int v1), some (.int v2), some (.int b0), J.1] [] (mH M b1 h0) := tq_lp1 (J := J) (fun q J => wfm_isFlat_b2 v1 v2 q J) rfl rfl kk
abbrev Pfm_isFlat_b26 (G : ai_G) (d M : Nat) (h0 : ai_H) (v1 : Int32) (v2 : Int32) : (Int32 × Int32 × mS) ⊕ (Int32 × mS) → Option ai_R → Prop := Sum.elim (fun (q : Int32 × Int32 × mS) run => ∃ J : Unit, run = ai_run G d 224 26 [some (.ref M), some (.int v1), some (.int v2), some (.int q.1), some (.int q.2.1)] [] (mH M q.2.2 h0)) (fun (q : Int32 × mS) run => ∃ J : JV × JV × JV × JV, run = ai_run G d 224 101 [J.1.1, J.2.1.1, J.2.2.1.1, some (.int q.1), J.2.2.2.1] [] (mH M q.2 h0))
theorem Bfm_isFlat_b26 {G : ai_G} {d M : Nat} {h0 : ai_H} (v1 : Int32) (v2 : Int32) (b0 : Int32) (b1 : Int32) (b2 : mS) (J : Unit) : Tj G d 224 (Pfm_isFlat_b26 G d M h0 v1 v2) (some (.inl (b0, b1, b2))) 26 [some (.ref M), some (.int v1), some (.int v2), some (.int b0), some (.int b1)] [] (mH M b2 h0) := tq_back J rfl rfl
theorem Efm_isFlat_b26 {G : ai_G} {d M : Nat} {h0 : ai_H} (v1 : Int32) (v2 : Int32) (b0 : Int32) (b1 : mS) (J : JV × JV × JV × JV) : Tj G d 224 (Pfm_isFlat_b26 G d M h0 v1 v2) (some (.inr (b0, b1))) 101 [J.1.1, J.2.1.1, J.2.2.1.1, some (.int b0), J.2.2.2.1] [] (mH M b1 h0) := tq_exit J rfl rfl
theorem wfm_isFlat_b26 {G : ai_G} {d M : Nat} {h0 : ai_H} (v1 : Int32) (v2 : Int32) (q : Int32 × Int32 × mS) (J : Unit) : Tj G d 224 (Pfm_isFlat_b26 G d M h0 v1 v2) (fm_isFlat_b26 v1 v2 q) 26 [some (.ref M), some (.int v1), some (.int v2), some (.int q.1), some (.int q.2.1)] [] (mH M q.2.2 h0) := by
  unfold fm_isFlat_b26
  refine tq_iload dX8_isFlat_26 rfl ?_
  refine tq_aload_n dX8_isFlat_28 rfl ?_
  refine tm_gi (k9 := 49) dX8_isFlat_29 rfl rfl ?_
  refine tq_icmp_ge dX8_isFlat_32 rfl ?_ ?_
  · exact Efm_isFlat_b26 _ _ _ _ (⟨some (.ref M), rfl⟩, ⟨some (.int v1), rfl⟩, ⟨some (.int v2), rfl⟩, ⟨some (.int q.2.1), rfl⟩)
  · refine tq_iload_n dX8_isFlat_35 rfl ?_
    refine tq_iload dX8_isFlat_36 rfl ?_
    refine tq_ishr dX8_isFlat_38 ?_
    refine tq_iconst (v := 1) dX8_isFlat_39 (by decide) ?_
    refine tq_iand dX8_isFlat_40 ?_
    refine tq_if_ne dX8_isFlat_41 rfl ?_ ?_
    · refine tq_aload_n dX8_isFlat_47 rfl ?_
      refine tm_ga (j := 29) dX8_isFlat_48 rfl rfl ?_
      refine tq_aload_n dX8_isFlat_51 rfl ?_
      refine tm_ga (j := 27) dX8_isFlat_52 rfl rfl ?_
      refine tq_iload dX8_isFlat_55 rfl ?_
      refine tm_ild dX8_isFlat_57 rfl (fun x57 => ?_)
      refine tq_dup2 dX8_isFlat_58 rfl rfl ?_
      refine tm_ild dX8_isFlat_59 rfl (fun x59 => ?_)
      refine tq_aload_n dX8_isFlat_60 rfl ?_
      refine tm_ga (j := 21) dX8_isFlat_61 rfl rfl ?_
      refine tq_iload dX8_isFlat_64 rfl ?_
      refine tm_ild dX8_isFlat_66 rfl (fun x66 => ?_)
      refine tq_iadd dX8_isFlat_67 ?_
      refine tm_ist dX8_isFlat_68 rfl (fun s68 => ?_)
      refine tq_iload_n dX8_isFlat_69 rfl ?_
      refine tq_if_eq dX8_isFlat_70 rfl ?_ ?_
      · refine tq_iconst (v := 0) dX8_isFlat_93 (by decide) ?_
        refine tq_istore_n (L' := [_, _, _, _, _]) dX8_isFlat_94 (Nat.le_of_ble_eq_true rfl) rfl ?_
        refine tq_iinc (v := (q.2.1 + 1)) (L' := [_, _, _, _, _]) dX8_isFlat_95 rfl (Nat.le_of_ble_eq_true rfl) rfl rfl ?_
        refine tq_goto dX8_isFlat_98 rfl ?_
        exact Bfm_isFlat_b26 _ _ _ _ _ ()
      · refine tq_aload_n dX8_isFlat_73 rfl ?_
        refine tm_ga (j := 29) dX8_isFlat_74 rfl rfl ?_
        refine tq_aload_n dX8_isFlat_77 rfl ?_
        refine tm_ga (j := 27) dX8_isFlat_78 rfl rfl ?_
        refine tq_iload dX8_isFlat_81 rfl ?_
        refine tm_ild dX8_isFlat_83 rfl (fun x83 => ?_)
        refine tm_ild dX8_isFlat_84 rfl (fun x84 => ?_)
        refine tq_iload_n dX8_isFlat_85 rfl ?_
        refine tq_icmp_gt dX8_isFlat_86 rfl ?_ ?_
        · refine tq_iconst (v := 0) dX8_isFlat_93 (by decide) ?_
          refine tq_istore_n (L' := [_, _, _, _, _]) dX8_isFlat_94 (Nat.le_of_ble_eq_true rfl) rfl ?_
          refine tq_iinc (v := (q.2.1 + 1)) (L' := [_, _, _, _, _]) dX8_isFlat_95 rfl (Nat.le_of_ble_eq_true rfl) rfl rfl ?_
          refine tq_goto dX8_isFlat_98 rfl ?_
          exact Bfm_isFlat_b26 _ _ _ _ _ ()
        · refine tq_iconst (v := 1) dX8_isFlat_89 (by decide) ?_
          refine tq_goto dX8_isFlat_90 rfl ?_
          refine tq_istore_n (L' := [_, _, _, _, _]) dX8_isFlat_94 (Nat.le_of_ble_eq_true rfl) rfl ?_
          refine tq_iinc (v := (q.2.1 + 1)) (L' := [_, _, _, _, _]) dX8_isFlat_95 rfl (Nat.le_of_ble_eq_true rfl) rfl rfl ?_
          refine tq_goto dX8_isFlat_98 rfl ?_
          exact Bfm_isFlat_b26 _ _ _ _ _ ()
    · refine tq_goto dX8_isFlat_44 rfl ?_
      refine tq_iinc (v := (q.2.1 + 1)) (L' := [_, _, _, _, _]) dX8_isFlat_95 rfl (Nat.le_of_ble_eq_true rfl) rfl rfl ?_
      refine tq_goto dX8_isFlat_98 rfl ?_
      exact Bfm_isFlat_b26 _ _ _ _ _ ()
theorem Sfm_isFlat_b26 {G : ai_G} {d M : Nat} {h0 : ai_H} {α : Type} {P : α → Option ai_R → Prop} (v1 : Int32) (v2 : Int32) (b0 : Int32) (b1 : Int32) (b2 : mS) (J : Unit) {r : (Int32 × mS) → Option α} (kk : ∀ (q : Int32 × mS) (J : JV × JV × JV × JV), Tj G d 224 P (r q) 101 [J.1.1, J.2.1.1, J.2.2.1.1, some (.int q.1), J.2.2.2.1] [] (mH M q.2 h0)) : Tj G d 224 P ((lp (fm_isFlat_b26 v1 v2) (b0, b1, b2)).bind r) 26 [some (.ref M), some (.int v1), some (.int v2), some (.int b0), some (.int b1)] [] (mH M b2 h0) := tq_lp1 (J := J) (fun q J => wfm_isFlat_b26 v1 v2 q J) rfl rfl kk
theorem wfm_isFlat {G : ai_G} {d M : Nat} {h0 : ai_H} (s : mS) (v1 : Int32) (v2 : Int32) : ∀ r, fm_isFlat s v1 v2 = some r → (PmI M h0) r (ai_call G (d + 1) 224 [.ref M, .int v1, .int v2] (mH M s h0)) := by
  refine tq_meth (P := (PmI M h0)) (d := d) (Nat.le_of_ble_eq_true rfl) ?_
  show Tj G d 224 (PmI M h0) (fm_isFlat s v1 v2) 0 [some (.ref M), some (.int v1), some (.int v2), none, none] [] (mH M s h0)
  unfold fm_isFlat
  refine tq_iconst (v := 0) dX8_isFlat_0 (by decide) ?_
  refine tq_istore_n (L' := [_, _, _, _, _]) dX8_isFlat_1 (Nat.le_of_ble_eq_true rfl) rfl ?_
  refine Sfm_isFlat_b2 _ _ _ _ ⟨none, rfl⟩ (fun q2 J2 => ?_)
  refine tq_iconst (v := 1) dX8_isFlat_21 (by decide) ?_
  refine tq_istore_n (L' := [_, _, _, _, _]) dX8_isFlat_22 (Nat.le_of_ble_eq_true rfl) rfl ?_
  refine tq_iconst (v := 0) dX8_isFlat_23 (by decide) ?_
  refine tq_istore (L' := [_, _, _, _, _]) dX8_isFlat_24 (Nat.le_of_ble_eq_true rfl) rfl ?_
  refine Sfm_isFlat_b26 _ _ _ _ _ () (fun q26 J26 => ?_)
  refine tq_iload_n dX8_isFlat_101 rfl ?_
  exact tq_iretB dX8_isFlat_102 rfl rfl rfl

/-! WALKS of the model: the interpreter does what the functions say (printed by tools/decm.py) -/
set_option maxRecDepth 100000
theorem wfm_untell {G : ai_G} {d M : Nat} {h0 : ai_H} (s : mS) (v1 : Int32) : ∀ r, fm_untell s v1 = some r → (PmI M h0) r (ai_call G (d + 2) 282 [.ref M, .int v1] (mH M s h0)) := by
  refine tq_meth (P := (PmI M h0)) (d := (d + 1)) (Nat.le_of_ble_eq_true rfl) ?_
  show Tj G (d + 1) 282 (PmI M h0) (fm_untell s v1) 0 [some (.ref M), some (.int v1)] [] (mH M s h0)
  unfold fm_untell
  refine tq_iload_n dX8_untell_0 rfl ?_
  refine tq_iconst (v := 0) dX8_untell_1 (by decide) ?_
  refine tq_aload_n dX8_untell_2 rfl ?_
  refine tm_gi (k9 := 75) dX8_untell_3 rfl rfl ?_
  refine tq_iconst (v := 1) dX8_untell_6 (by decide) ?_
  refine tq_isub dX8_untell_7 ?_
  refine ts_c3_i dX8_untell_8 rfl rfl rfl (Nat.le_of_ble_eq_true rfl) (wfm_isIn (d := d) _ _ _) (fun p8 => ?_)
  refine tq_if_eq dX8_untell_11 rfl ?_ ?_
  · refine tq_iconst (v := 0) dX8_untell_23 (by decide) ?_
    exact tq_ireturn dX8_untell_24 (by decide) rfl
  · refine tq_aload_n dX8_untell_14 rfl ?_
    refine tm_ga (j := 38) dX8_untell_15 rfl rfl ?_
    refine tq_iload_n dX8_untell_18 rfl ?_
    refine tm_ild dX8_untell_19 rfl (fun x19 => ?_)
    refine tq_if_lt dX8_untell_20 rfl ?_ ?_
    · refine tq_aload_n dX8_untell_25 rfl ?_
      refine tm_ga (j := 38) dX8_untell_26 rfl rfl ?_
      refine tq_iload_n dX8_untell_29 rfl ?_
      refine tq_aload_n dX8_untell_30 rfl ?_
      refine tm_gi (k9 := 76) dX8_untell_31 rfl rfl ?_
      refine tm_ist dX8_untell_34 rfl (fun s34 => ?_)
      refine tq_iconst (v := 1) dX8_untell_35 (by decide) ?_
      exact tq_ireturn dX8_untell_36 (by decide) rfl
    · refine tq_iconst (v := 0) dX8_untell_23 (by decide) ?_
      exact tq_ireturn dX8_untell_24 (by decide) rfl
theorem wfm_later {G : ai_G} {d M : Nat} {h0 : ai_H} (s : mS) (v1 : Int32) : ∀ r, fm_later s v1 = some r → (PmI M h0) r (ai_call G (d + 1) 284 [.ref M, .int v1] (mH M s h0)) := by
  refine tq_meth (P := (PmI M h0)) (d := d) (Nat.le_of_ble_eq_true rfl) ?_
  show Tj G d 284 (PmI M h0) (fm_later s v1) 0 [some (.ref M), some (.int v1)] [] (mH M s h0)
  unfold fm_later
  refine tq_iload_n dX8_later_0 rfl ?_
  refine tq_if_lt dX8_later_1 rfl ?_ ?_
  · refine tq_iconst (v := (-1)) dX8_later_23 (by decide) ?_
    exact tq_ireturn dX8_later_24 rfl rfl
  · refine tq_iload_n dX8_later_4 rfl ?_
    refine tq_sipush (v := 1000) dX8_later_5 (by decide) ?_
    refine tq_icmp_gt dX8_later_8 rfl ?_ ?_
    · refine tq_iconst (v := (-1)) dX8_later_23 (by decide) ?_
      exact tq_ireturn dX8_later_24 rfl rfl
    · refine tq_aload_n dX8_later_11 rfl ?_
      refine tm_gi (k9 := 76) dX8_later_12 rfl rfl ?_
      refine tq_iload_n dX8_later_15 rfl ?_
      refine tq_iadd dX8_later_16 ?_
      refine tq_ldc_w (v := .int 100000) dX8_later_17 rfl rfl ?_
      refine tq_icmp_le dX8_later_20 rfl ?_ ?_
      · refine tq_aload_n dX8_later_25 rfl ?_
        refine tq_dup dX8_later_26 rfl ?_
        refine tm_gi (k9 := 76) dX8_later_27 rfl rfl ?_
        refine tq_iload_n dX8_later_30 rfl ?_
        refine tq_iadd dX8_later_31 ?_
        refine tm_pi dX8_later_32 rfl rfl (fun s32 => ?_)
        refine tq_aload_n dX8_later_35 rfl ?_
        refine tm_gi (k9 := 76) dX8_later_36 rfl rfl ?_
        exact tq_ireturn dX8_later_39 rfl rfl
      · refine tq_iconst (v := (-1)) dX8_later_23 (by decide) ?_
        exact tq_ireturn dX8_later_24 rfl rfl
theorem wfm_isSo_j33 {G : ai_G} {d M : Nat} {h0 : ai_H} (j2 : JV)   (s : mS) (v1 : Int32) (t0 : Int32): Tj G d 289 (Pi (mH M s h0)) (fm_isSo_j33 s v1 t0) 33 [some (.ref M), some (.int v1), j2.1] [.int t0] (mH M s h0) := by
  unfold fm_isSo_j33
  refine tq_aload_n dX8_isSo_33 rfl ?_
  refine tm_ga (j := 36) dX8_isSo_34 rfl rfl ?_
  refine tq_iload_n dX8_isSo_37 rfl ?_
  refine tm_ild dX8_isSo_38 rfl (fun x38 => ?_)
  refine tq_icmp_lt dX8_isSo_39 rfl ?_ ?_
  · refine tq_iconst (v := 0) dX8_isSo_46 (by decide) ?_
    exact tq_ireturn dX8_isSo_47 (by decide) rfl
  · refine tq_iconst (v := 1) dX8_isSo_42 (by decide) ?_
    refine tq_goto dX8_isSo_43 rfl ?_
    exact tq_ireturn dX8_isSo_47 (by decide) rfl
theorem wfm_isSo {G : ai_G} {d M : Nat} {h0 : ai_H} (s : mS) (v1 : Int32) : ∀ r, fm_isSo s v1 = some r → (Pi (mH M s h0)) r (ai_call G (d + 1) 289 [.ref M, .int v1] (mH M s h0)) := by
  refine tq_meth (P := (Pi (mH M s h0))) (d := d) (Nat.le_of_ble_eq_true rfl) ?_
  show Tj G d 289 (Pi (mH M s h0)) (fm_isSo s v1) 0 [some (.ref M), some (.int v1), none] [] (mH M s h0)
  unfold fm_isSo
  refine tq_aload_n dX8_isSo_0 rfl ?_
  refine tm_ga (j := 35) dX8_isSo_1 rfl rfl ?_
  refine tq_iload_n dX8_isSo_4 rfl ?_
  refine tm_ild dX8_isSo_5 rfl (fun x5 => ?_)
  refine tq_iconst (v := 1) dX8_isSo_6 (by decide) ?_
  refine tq_isub dX8_isSo_7 ?_
  refine tq_istore_n (L' := [_, _, _]) dX8_isSo_8 (Nat.le_of_ble_eq_true rfl) rfl ?_
  refine tq_aload_n dX8_isSo_9 rfl ?_
  refine tm_ga (j := 34) dX8_isSo_10 rfl rfl ?_
  refine tq_iload_n dX8_isSo_13 rfl ?_
  refine tm_ild dX8_isSo_14 rfl (fun x14 => ?_)
  refine tq_if_ne dX8_isSo_15 rfl ?_ ?_
  · refine tq_aload_n dX8_isSo_27 rfl ?_
    refine tm_ga (j := 41) dX8_isSo_28 rfl rfl ?_
    refine tq_iload_n dX8_isSo_31 rfl ?_
    refine tm_ild dX8_isSo_32 rfl (fun x32 => ?_)
    exact wfm_isSo_j33 ⟨some (.int (x5 - 1)), rfl⟩ _ _ _
  · refine tq_aload_n dX8_isSo_18 rfl ?_
    refine tm_ga (j := 40) dX8_isSo_19 rfl rfl ?_
    refine tq_iload_n dX8_isSo_22 rfl ?_
    refine tm_ild dX8_isSo_23 rfl (fun x23 => ?_)
    refine tq_goto dX8_isSo_24 rfl ?_
    exact wfm_isSo_j33 ⟨some (.int (x5 - 1)), rfl⟩ _ _ _
abbrev Pfm_layFits_b4 (G : ai_G) (d M : Nat) (h0 : ai_H) (v1 : Int32) (v2 : Int32) : (Int32 × mS) ⊕ mS → Option ai_R → Prop := Sum.elim (fun (q : Int32 × mS) run => ∃ J : JV × JV × JV, run = ai_run G (d + 4) 290 4 [some (.ref M), some (.int v1), some (.int v2), some (.int q.1), J.1.1, J.2.1.1, J.2.2.1] [] (mH M q.2 h0)) (fun (q : mS) run => ∃ J : JV × JV × JV × JV, run = ai_run G (d + 4) 290 23 [some (.ref M), some (.int v1), some (.int v2), J.1.1, J.2.1.1, J.2.2.1.1, J.2.2.2.1] [] (mH M q h0))
theorem Bfm_layFits_b4 {G : ai_G} {d M : Nat} {h0 : ai_H} (v1 : Int32) (v2 : Int32) (b0 : Int32) (b1 : mS) (J : JV × JV × JV) : Tj G (d + 4) 290 (Pfm_layFits_b4 G d M h0 v1 v2) (some (.inl (b0, b1))) 4 [some (.ref M), some (.int v1), some (.int v2), some (.int b0), J.1.1, J.2.1.1, J.2.2.1] [] (mH M b1 h0) := tq_back J rfl rfl
theorem Efm_layFits_b4 {G : ai_G} {d M : Nat} {h0 : ai_H} (v1 : Int32) (v2 : Int32) (b0 : mS) (J : JV × JV × JV × JV) : Tj G (d + 4) 290 (Pfm_layFits_b4 G d M h0 v1 v2) (some (.inr b0)) 23 [some (.ref M), some (.int v1), some (.int v2), J.1.1, J.2.1.1, J.2.2.1.1, J.2.2.2.1] [] (mH M b0 h0) := tq_exit J rfl rfl
theorem wfm_layFits_b4 {G : ai_G} {d M : Nat} {h0 : ai_H} (v1 : Int32) (v2 : Int32) (q : Int32 × mS) (J : JV × JV × JV) : Tj G (d + 4) 290 (Pfm_layFits_b4 G d M h0 v1 v2) (fm_layFits_b4 v1 v2 q) 4 [some (.ref M), some (.int v1), some (.int v2), some (.int q.1), J.1.1, J.2.1.1, J.2.2.1] [] (mH M q.2 h0) := by
  unfold fm_layFits_b4
  refine tq_iload_n dX8_layFits_4 rfl ?_
  refine tq_bipush (v := 18) dX8_layFits_5 (by decide) ?_
  refine tq_icmp_ge dX8_layFits_7 rfl ?_ ?_
  · exact Efm_layFits_b4 _ _ _ (⟨some (.int q.1), rfl⟩, J.1, J.2.1, J.2.2)
  · refine tq_aload_n dX8_layFits_10 rfl ?_
    refine tm_ga (j := 42) dX8_layFits_11 rfl rfl ?_
    refine tq_iload_n dX8_layFits_14 rfl ?_
    refine tq_iconst (v := 0) dX8_layFits_15 (by decide) ?_
    refine tm_ist dX8_layFits_16 rfl (fun s16 => ?_)
    refine tq_iinc (v := (q.1 + 1)) (L' := [_, _, _, _, _, _, _]) dX8_layFits_17 rfl (Nat.le_of_ble_eq_true rfl) rfl rfl ?_
    refine tq_goto dX8_layFits_20 rfl ?_
    exact Bfm_layFits_b4 _ _ _ _ (J.1, J.2.1, J.2.2)
theorem Sfm_layFits_b4 {G : ai_G} {d M : Nat} {h0 : ai_H} {α : Type} {P : α → Option ai_R → Prop} (v1 : Int32) (v2 : Int32) (b0 : Int32) (b1 : mS) (J : JV × JV × JV) {r : mS → Option α} (kk : ∀ (q : mS) (J : JV × JV × JV × JV), Tj G (d + 4) 290 P (r q) 23 [some (.ref M), some (.int v1), some (.int v2), J.1.1, J.2.1.1, J.2.2.1.1, J.2.2.2.1] [] (mH M q h0)) : Tj G (d + 4) 290 P ((lp (fm_layFits_b4 v1 v2) (b0, b1)).bind r) 4 [some (.ref M), some (.int v1), some (.int v2), some (.int b0), J.1.1, J.2.1.1, J.2.2.1] [] (mH M b1 h0) := tq_lp1 (J := J) (fun q J => wfm_layFits_b4 v1 v2 q J) rfl rfl kk
abbrev Pfm_layFits_b25 (G : ai_G) (d M : Nat) (h0 : ai_H) (v1 : Int32) : (Int32 × Int32 × mS) ⊕ (Int32 × mS) → Option ai_R → Prop := Sum.elim (fun (q : Int32 × Int32 × mS) run => ∃ J : JV × JV × JV, run = ai_run G (d + 4) 290 25 [some (.ref M), some (.int v1), some (.int q.1), some (.int q.2.1), J.1.1, J.2.1.1, J.2.2.1] [] (mH M q.2.2 h0)) (fun (q : Int32 × mS) run => ∃ J : JV × JV × JV × JV × JV × JV, run = ai_run G (d + 4) 290 330 [J.1.1, J.2.1.1, some (.int q.1), J.2.2.1.1, J.2.2.2.1.1, J.2.2.2.2.1.1, J.2.2.2.2.2.1] [] (mH M q.2 h0))
theorem Bfm_layFits_b25 {G : ai_G} {d M : Nat} {h0 : ai_H} (v1 : Int32) (b0 : Int32) (b1 : Int32) (b2 : mS) (J : JV × JV × JV) : Tj G (d + 4) 290 (Pfm_layFits_b25 G d M h0 v1) (some (.inl (b0, b1, b2))) 25 [some (.ref M), some (.int v1), some (.int b0), some (.int b1), J.1.1, J.2.1.1, J.2.2.1] [] (mH M b2 h0) := tq_back J rfl rfl
theorem Efm_layFits_b25 {G : ai_G} {d M : Nat} {h0 : ai_H} (v1 : Int32) (b0 : Int32) (b1 : mS) (J : JV × JV × JV × JV × JV × JV) : Tj G (d + 4) 290 (Pfm_layFits_b25 G d M h0 v1) (some (.inr (b0, b1))) 330 [J.1.1, J.2.1.1, some (.int b0), J.2.2.1.1, J.2.2.2.1.1, J.2.2.2.2.1.1, J.2.2.2.2.2.1] [] (mH M b1 h0) := tq_exit J rfl rfl
abbrev Pfm_layFits_b47 (G : ai_G) (d M : Nat) (h0 : ai_H) (v1 : Int32) (v2 : Int32) (v3 : Int32) : (Int32 × mS) ⊕ mS → Option ai_R → Prop := Sum.elim (fun (q : Int32 × mS) run => ∃ J : JV × JV, run = ai_run G (d + 4) 290 47 [some (.ref M), some (.int v1), some (.int v2), some (.int v3), some (.int q.1), J.1.1, J.2.1] [] (mH M q.2 h0)) (fun (q : mS) run => ∃ J : JV × JV × JV, run = ai_run G (d + 4) 290 68 [some (.ref M), some (.int v1), some (.int v2), some (.int v3), J.1.1, J.2.1.1, J.2.2.1] [] (mH M q h0))
theorem Bfm_layFits_b47 {G : ai_G} {d M : Nat} {h0 : ai_H} (v1 : Int32) (v2 : Int32) (v3 : Int32) (b0 : Int32) (b1 : mS) (J : JV × JV) : Tj G (d + 4) 290 (Pfm_layFits_b47 G d M h0 v1 v2 v3) (some (.inl (b0, b1))) 47 [some (.ref M), some (.int v1), some (.int v2), some (.int v3), some (.int b0), J.1.1, J.2.1] [] (mH M b1 h0) := tq_back J rfl rfl
theorem Efm_layFits_b47 {G : ai_G} {d M : Nat} {h0 : ai_H} (v1 : Int32) (v2 : Int32) (v3 : Int32) (b0 : mS) (J : JV × JV × JV) : Tj G (d + 4) 290 (Pfm_layFits_b47 G d M h0 v1 v2 v3) (some (.inr b0)) 68 [some (.ref M), some (.int v1), some (.int v2), some (.int v3), J.1.1, J.2.1.1, J.2.2.1] [] (mH M b0 h0) := tq_exit J rfl rfl
theorem wfm_layFits_b47 {G : ai_G} {d M : Nat} {h0 : ai_H} (v1 : Int32) (v2 : Int32) (v3 : Int32) (q : Int32 × mS) (J : JV × JV) : Tj G (d + 4) 290 (Pfm_layFits_b47 G d M h0 v1 v2 v3) (fm_layFits_b47 v1 v2 v3 q) 47 [some (.ref M), some (.int v1), some (.int v2), some (.int v3), some (.int q.1), J.1.1, J.2.1] [] (mH M q.2 h0) := by
  unfold fm_layFits_b47
  refine tq_iload dX8_layFits_47 rfl ?_
  refine tq_bipush (v := 28) dX8_layFits_49 (by decide) ?_
  refine tq_icmp_ge dX8_layFits_51 rfl ?_ ?_
  · exact Efm_layFits_b47 _ _ _ _ (⟨some (.int q.1), rfl⟩, J.1, J.2)
  · refine tq_aload_n dX8_layFits_54 rfl ?_
    refine tm_ga (j := 23) dX8_layFits_55 rfl rfl ?_
    refine tq_iload dX8_layFits_58 rfl ?_
    refine tq_iconst (v := 0) dX8_layFits_60 (by decide) ?_
    refine tm_ist dX8_layFits_61 rfl (fun s61 => ?_)
    refine tq_iinc (v := (q.1 + 1)) (L' := [_, _, _, _, _, _, _]) dX8_layFits_62 rfl (Nat.le_of_ble_eq_true rfl) rfl rfl ?_
    refine tq_goto dX8_layFits_65 rfl ?_
    exact Bfm_layFits_b47 _ _ _ _ _ (J.1, J.2)
theorem Sfm_layFits_b47 {G : ai_G} {d M : Nat} {h0 : ai_H} {α : Type} {P : α → Option ai_R → Prop} (v1 : Int32) (v2 : Int32) (v3 : Int32) (b0 : Int32) (b1 : mS) (J : JV × JV) {r : mS → Option α} (kk : ∀ (q : mS) (J : JV × JV × JV), Tj G (d + 4) 290 P (r q) 68 [some (.ref M), some (.int v1), some (.int v2), some (.int v3), J.1.1, J.2.1.1, J.2.2.1] [] (mH M q h0)) : Tj G (d + 4) 290 P ((lp (fm_layFits_b47 v1 v2 v3) (b0, b1)).bind r) 47 [some (.ref M), some (.int v1), some (.int v2), some (.int v3), some (.int b0), J.1.1, J.2.1] [] (mH M b1 h0) := tq_lp1 (J := J) (fun q J => wfm_layFits_b47 v1 v2 v3 q J) rfl rfl kk
abbrev Pfm_layFits_b71 (G : ai_G) (d M : Nat) (h0 : ai_H) (v1 : Int32) (v2 : Int32) (v3 : Int32) : (Int32 × mS) ⊕ mS → Option ai_R → Prop := Sum.elim (fun (q : Int32 × mS) run => ∃ J : JV × JV, run = ai_run G (d + 4) 290 71 [some (.ref M), some (.int v1), some (.int v2), some (.int v3), some (.int q.1), J.1.1, J.2.1] [] (mH M q.2 h0)) (fun (q : mS) run => ∃ J : JV × JV × JV, run = ai_run G (d + 4) 290 97 [some (.ref M), some (.int v1), some (.int v2), some (.int v3), J.1.1, J.2.1.1, J.2.2.1] [] (mH M q h0))
theorem Bfm_layFits_b71 {G : ai_G} {d M : Nat} {h0 : ai_H} (v1 : Int32) (v2 : Int32) (v3 : Int32) (b0 : Int32) (b1 : mS) (J : JV × JV) : Tj G (d + 4) 290 (Pfm_layFits_b71 G d M h0 v1 v2 v3) (some (.inl (b0, b1))) 71 [some (.ref M), some (.int v1), some (.int v2), some (.int v3), some (.int b0), J.1.1, J.2.1] [] (mH M b1 h0) := tq_back J rfl rfl
theorem Efm_layFits_b71 {G : ai_G} {d M : Nat} {h0 : ai_H} (v1 : Int32) (v2 : Int32) (v3 : Int32) (b0 : mS) (J : JV × JV × JV) : Tj G (d + 4) 290 (Pfm_layFits_b71 G d M h0 v1 v2 v3) (some (.inr b0)) 97 [some (.ref M), some (.int v1), some (.int v2), some (.int v3), J.1.1, J.2.1.1, J.2.2.1] [] (mH M b0 h0) := tq_exit J rfl rfl
theorem wfm_layFits_b71 {G : ai_G} {d M : Nat} {h0 : ai_H} (v1 : Int32) (v2 : Int32) (v3 : Int32) (q : Int32 × mS) (J : JV × JV) : Tj G (d + 4) 290 (Pfm_layFits_b71 G d M h0 v1 v2 v3) (fm_layFits_b71 v1 v2 v3 q) 71 [some (.ref M), some (.int v1), some (.int v2), some (.int v3), some (.int q.1), J.1.1, J.2.1] [] (mH M q.2 h0) := by
  unfold fm_layFits_b71
  refine tq_iload dX8_layFits_71 rfl ?_
  refine tq_aload_n dX8_layFits_73 rfl ?_
  refine tm_gi (k9 := 49) dX8_layFits_74 rfl rfl ?_
  refine tq_icmp_ge dX8_layFits_77 rfl ?_ ?_
  · exact Efm_layFits_b71 _ _ _ _ (⟨some (.int q.1), rfl⟩, J.1, J.2)
  · refine tq_aload_n dX8_layFits_80 rfl ?_
    refine tm_ga (j := 23) dX8_layFits_81 rfl rfl ?_
    refine tq_bipush (v := 20) dX8_layFits_84 (by decide) ?_
    refine tq_iload dX8_layFits_86 rfl ?_
    refine tq_iadd dX8_layFits_88 ?_
    refine tq_iconst (v := (-1)) dX8_layFits_89 (by decide) ?_
    refine tm_ist dX8_layFits_90 rfl (fun s90 => ?_)
    refine tq_iinc (v := (q.1 + 1)) (L' := [_, _, _, _, _, _, _]) dX8_layFits_91 rfl (Nat.le_of_ble_eq_true rfl) rfl rfl ?_
    refine tq_goto dX8_layFits_94 rfl ?_
    exact Bfm_layFits_b71 _ _ _ _ _ (J.1, J.2)
theorem Sfm_layFits_b71 {G : ai_G} {d M : Nat} {h0 : ai_H} {α : Type} {P : α → Option ai_R → Prop} (v1 : Int32) (v2 : Int32) (v3 : Int32) (b0 : Int32) (b1 : mS) (J : JV × JV) {r : mS → Option α} (kk : ∀ (q : mS) (J : JV × JV × JV), Tj G (d + 4) 290 P (r q) 97 [some (.ref M), some (.int v1), some (.int v2), some (.int v3), J.1.1, J.2.1.1, J.2.2.1] [] (mH M q h0)) : Tj G (d + 4) 290 P ((lp (fm_layFits_b71 v1 v2 v3) (b0, b1)).bind r) 71 [some (.ref M), some (.int v1), some (.int v2), some (.int v3), some (.int b0), J.1.1, J.2.1] [] (mH M b1 h0) := tq_lp1 (J := J) (fun q J => wfm_layFits_b71 v1 v2 v3 q J) rfl rfl kk
abbrev Pfm_layFits_b115 (G : ai_G) (d M : Nat) (h0 : ai_H) (v1 : Int32) (v2 : Int32) (v3 : Int32) : (Int32 × Int32 × mS) ⊕ mS → Option ai_R → Prop := Sum.elim (fun (q : Int32 × Int32 × mS) run => ∃ J : JV, run = ai_run G (d + 4) 290 115 [some (.ref M), some (.int v1), some (.int v2), some (.int v3), some (.int q.1), some (.int q.2.1), J.1] [] (mH M q.2.2 h0)) (fun (q : mS) run => ∃ J : JV × JV × JV, run = ai_run G (d + 4) 290 191 [some (.ref M), some (.int v1), some (.int v2), some (.int v3), J.1.1, J.2.1.1, J.2.2.1] [] (mH M q h0))
theorem Bfm_layFits_b115 {G : ai_G} {d M : Nat} {h0 : ai_H} (v1 : Int32) (v2 : Int32) (v3 : Int32) (b0 : Int32) (b1 : Int32) (b2 : mS) (J : JV) : Tj G (d + 4) 290 (Pfm_layFits_b115 G d M h0 v1 v2 v3) (some (.inl (b0, b1, b2))) 115 [some (.ref M), some (.int v1), some (.int v2), some (.int v3), some (.int b0), some (.int b1), J.1] [] (mH M b2 h0) := tq_back J rfl rfl
theorem Efm_layFits_b115 {G : ai_G} {d M : Nat} {h0 : ai_H} (v1 : Int32) (v2 : Int32) (v3 : Int32) (b0 : mS) (J : JV × JV × JV) : Tj G (d + 4) 290 (Pfm_layFits_b115 G d M h0 v1 v2 v3) (some (.inr b0)) 191 [some (.ref M), some (.int v1), some (.int v2), some (.int v3), J.1.1, J.2.1.1, J.2.2.1] [] (mH M b0 h0) := tq_exit J rfl rfl
theorem wfm_layFits_b115 {G : ai_G} {d M : Nat} {h0 : ai_H} (v1 : Int32) (v2 : Int32) (v3 : Int32) (q : Int32 × Int32 × mS) (J : JV) : Tj G (d + 4) 290 (Pfm_layFits_b115 G d M h0 v1 v2 v3) (fm_layFits_b115 v1 v2 v3 q) 115 [some (.ref M), some (.int v1), some (.int v2), some (.int v3), some (.int q.1), some (.int q.2.1), J.1] [] (mH M q.2.2 h0) := by
  unfold fm_layFits_b115
  refine tq_iload dX8_layFits_115 rfl ?_
  refine tq_aload_n dX8_layFits_117 rfl ?_
  refine tm_gi (k9 := 47) dX8_layFits_118 rfl rfl ?_
  refine tq_icmp_ge dX8_layFits_121 rfl ?_ ?_
  · exact Efm_layFits_b115 _ _ _ _ (⟨some (.int q.1), rfl⟩, ⟨some (.int q.2.1), rfl⟩, J)
  · refine tq_aload_n dX8_layFits_124 rfl ?_
    refine tm_ga (j := 25) dX8_layFits_125 rfl rfl ?_
    refine tq_iload dX8_layFits_128 rfl ?_
    refine tq_iload dX8_layFits_130 rfl ?_
    refine tq_iconst (v := 3) dX8_layFits_132 (by decide) ?_
    refine tq_irem dX8_layFits_133 (fun x133 => ?_)
    refine tq_iconst (v := 1) dX8_layFits_134 (by decide) ?_
    refine tq_isub dX8_layFits_135 ?_
    refine tm_ist dX8_layFits_136 rfl (fun s136 => ?_)
    refine tq_iload dX8_layFits_137 rfl ?_
    refine tq_iconst (v := 3) dX8_layFits_139 (by decide) ?_
    refine tq_idiv dX8_layFits_140 (fun x140 => ?_)
    refine tq_istore (L' := [_, _, _, _, _, _, _]) dX8_layFits_141 (Nat.le_of_ble_eq_true rfl) rfl ?_
    refine tq_aload_n dX8_layFits_143 rfl ?_
    refine tq_iconst (v := 0) dX8_layFits_144 (by decide) ?_
    refine tq_aload_n dX8_layFits_145 rfl ?_
    refine tm_ga (j := 25) dX8_layFits_146 rfl rfl ?_
    refine tq_iload dX8_layFits_149 rfl ?_
    refine tm_ild dX8_layFits_151 rfl (fun x151 => ?_)
    refine tq_iconst (v := 1) dX8_layFits_152 (by decide) ?_
    refine tq_iconst (v := 1) dX8_layFits_153 (by decide) ?_
    refine tm_c4_I dX8_layFits_154 rfl rfl rfl (Nat.le_of_ble_eq_true rfl) (wfm_goStroke (d := d) _ _ _ _ _) (fun p154 => ?_)
    refine tq_pop dX8_layFits_157 rfl ?_
    refine tq_aload_n dX8_layFits_158 rfl ?_
    refine tm_ga (j := 40) dX8_layFits_159 rfl rfl ?_
    refine tq_iload dX8_layFits_162 rfl ?_
    refine tq_aload_n dX8_layFits_164 rfl ?_
    refine tm_ga (j := 23) dX8_layFits_165 rfl rfl ?_
    refine tq_iconst (v := 0) dX8_layFits_168 (by decide) ?_
    refine tm_ild dX8_layFits_169 rfl (fun x169 => ?_)
    refine tm_ist dX8_layFits_170 rfl (fun s170 => ?_)
    refine tq_aload_n dX8_layFits_171 rfl ?_
    refine tm_ga (j := 41) dX8_layFits_172 rfl rfl ?_
    refine tq_iload dX8_layFits_175 rfl ?_
    refine tq_aload_n dX8_layFits_177 rfl ?_
    refine tm_ga (j := 23) dX8_layFits_178 rfl rfl ?_
    refine tq_bipush (v := 8) dX8_layFits_181 (by decide) ?_
    refine tm_ild dX8_layFits_183 rfl (fun x183 => ?_)
    refine tm_ist dX8_layFits_184 rfl (fun s184 => ?_)
    refine tq_iinc (v := (q.2.1 + 1)) (L' := [_, _, _, _, _, _, _]) dX8_layFits_185 rfl (Nat.le_of_ble_eq_true rfl) rfl rfl ?_
    refine tq_goto dX8_layFits_188 rfl ?_
    exact Bfm_layFits_b115 _ _ _ _ _ _ J
theorem Sfm_layFits_b115 {G : ai_G} {d M : Nat} {h0 : ai_H} {α : Type} {P : α → Option ai_R → Prop} (v1 : Int32) (v2 : Int32) (v3 : Int32) (b0 : Int32) (b1 : Int32) (b2 : mS) (J : JV) {r : mS → Option α} (kk : ∀ (q : mS) (J : JV × JV × JV), Tj G (d + 4) 290 P (r q) 191 [some (.ref M), some (.int v1), some (.int v2), some (.int v3), J.1.1, J.2.1.1, J.2.2.1] [] (mH M q h0)) : Tj G (d + 4) 290 P ((lp (fm_layFits_b115 v1 v2 v3) (b0, b1, b2)).bind r) 115 [some (.ref M), some (.int v1), some (.int v2), some (.int v3), some (.int b0), some (.int b1), J.1] [] (mH M b2 h0) := tq_lp1 (J := J) (fun q J => wfm_layFits_b115 v1 v2 v3 q J) rfl rfl kk
abbrev Pfm_layFits_b197 (G : ai_G) (d M : Nat) (h0 : ai_H) (s : mS) (v1 : Int32) (v2 : Int32) (v3 : Int32) : (Int32 × Int32) ⊕ Int32 → Option ai_R → Prop := Sum.elim (fun (q : Int32 × Int32) run => ∃ J : JV, run = ai_run G (d + 4) 290 197 [some (.ref M), some (.int v1), some (.int v2), some (.int v3), J.1, some (.int q.1), some (.int q.2)] [] (mH M s h0)) (fun (q : Int32) run => ∃ J : JV × JV, run = ai_run G (d + 4) 290 272 [some (.ref M), some (.int v1), some (.int v2), some (.int v3), J.1.1, some (.int q), J.2.1] [] (mH M s h0))
theorem Bfm_layFits_b197 {G : ai_G} {d M : Nat} {h0 : ai_H} (s : mS) (v1 : Int32) (v2 : Int32) (v3 : Int32) (b0 : Int32) (b1 : Int32) (J : JV) : Tj G (d + 4) 290 (Pfm_layFits_b197 G d M h0 s v1 v2 v3) (some (.inl (b0, b1))) 197 [some (.ref M), some (.int v1), some (.int v2), some (.int v3), J.1, some (.int b0), some (.int b1)] [] (mH M s h0) := tq_back J rfl rfl
theorem Efm_layFits_b197 {G : ai_G} {d M : Nat} {h0 : ai_H} (s : mS) (v1 : Int32) (v2 : Int32) (v3 : Int32) (b0 : Int32) (J : JV × JV) : Tj G (d + 4) 290 (Pfm_layFits_b197 G d M h0 s v1 v2 v3) (some (.inr b0)) 272 [some (.ref M), some (.int v1), some (.int v2), some (.int v3), J.1.1, some (.int b0), J.2.1] [] (mH M s h0) := tq_exit J rfl rfl
theorem wfm_layFits_j243 {G : ai_G} {d M : Nat} {h0 : ai_H} (j4 : JV) (j5 : JV)   (s : mS) (v1 : Int32) (v2 : Int32) (v3 : Int32) (v6 : Int32): Tj G (d + 4) 290 (Pfm_layFits_b197 G d M h0 s v1 v2 v3) (fm_layFits_j243 s v1 v2 v3 v6) 243 [some (.ref M), some (.int v1), some (.int v2), some (.int v3), j4.1, j5.1, some (.int v6)] [] (mH M s h0) := by
  unfold fm_layFits_j243
  refine tq_aload_n dX8_layFits_243 rfl ?_
  refine tq_iload dX8_layFits_244 rfl ?_
  refine tm_c1_i dX8_layFits_246 rfl rfl rfl (Nat.le_of_ble_eq_true rfl) (wfm_isSo (d := d + 3) _ _) (fun p246 => ?_)
  refine tq_aload_n dX8_layFits_249 rfl ?_
  refine tm_ga (j := 39) dX8_layFits_250 rfl rfl ?_
  refine tq_iload dX8_layFits_253 rfl ?_
  refine tm_bld dX8_layFits_255 rfl (fun x255 => ?_)
  refine tq_icmp_ne dX8_layFits_256 rfl ?_ ?_
  · refine tq_iconst (v := 0) dX8_layFits_263 (by decide) ?_
    refine tq_istore (L' := [_, _, _, _, _, _, _]) dX8_layFits_264 (Nat.le_of_ble_eq_true rfl) (st1_jv (i := 4) (j := j4) rfl rfl) ?_
    refine tq_iinc (v := (v6 + 1)) (L' := [_, _, _, _, _, _, _]) dX8_layFits_266 rfl (Nat.le_of_ble_eq_true rfl) rfl rfl ?_
    refine tq_goto dX8_layFits_269 rfl ?_
    exact Bfm_layFits_b197 _ _ _ _ _ _ j4
  · refine tq_iconst (v := 1) dX8_layFits_259 (by decide) ?_
    refine tq_goto dX8_layFits_260 rfl ?_
    refine tq_istore (L' := [_, _, _, _, _, _, _]) dX8_layFits_264 (Nat.le_of_ble_eq_true rfl) (st1_jv (i := 4) (j := j4) rfl rfl) ?_
    refine tq_iinc (v := (v6 + 1)) (L' := [_, _, _, _, _, _, _]) dX8_layFits_266 rfl (Nat.le_of_ble_eq_true rfl) rfl rfl ?_
    refine tq_goto dX8_layFits_269 rfl ?_
    exact Bfm_layFits_b197 _ _ _ _ _ _ j4
theorem wfm_layFits_b197 {G : ai_G} {d M : Nat} {h0 : ai_H} (s : mS) (v1 : Int32) (v2 : Int32) (v3 : Int32) (q : Int32 × Int32) (J : JV) : Tj G (d + 4) 290 (Pfm_layFits_b197 G d M h0 s v1 v2 v3) (fm_layFits_b197 s v1 v2 v3 q) 197 [some (.ref M), some (.int v1), some (.int v2), some (.int v3), J.1, some (.int q.1), some (.int q.2)] [] (mH M s h0) := by
  unfold fm_layFits_b197
  refine tq_iload dX8_layFits_197 rfl ?_
  refine tq_aload_n dX8_layFits_199 rfl ?_
  refine tm_gi (k9 := 75) dX8_layFits_200 rfl rfl ?_
  refine tq_icmp_ge dX8_layFits_203 rfl ?_ ?_
  · exact Efm_layFits_b197 _ _ _ _ _ (J, ⟨some (.int q.2), rfl⟩)
  · refine tq_iload dX8_layFits_206 rfl ?_
    refine tq_if_eq dX8_layFits_208 rfl ?_ ?_
    · exact Efm_layFits_b197 _ _ _ _ _ (J, ⟨some (.int q.2), rfl⟩)
    · refine tq_aload_n dX8_layFits_211 rfl ?_
      refine tm_ga (j := 37) dX8_layFits_212 rfl rfl ?_
      refine tq_iload dX8_layFits_215 rfl ?_
      refine tm_ild dX8_layFits_217 rfl (fun x217 => ?_)
      refine tq_iload_n dX8_layFits_218 rfl ?_
      refine tq_icmp_gt dX8_layFits_219 rfl ?_ ?_
      · refine tq_iconst (v := 1) dX8_layFits_259 (by decide) ?_
        refine tq_goto dX8_layFits_260 rfl ?_
        refine tq_istore (L' := [_, _, _, _, _, _, _]) dX8_layFits_264 (Nat.le_of_ble_eq_true rfl) (st1_jv (i := 4) (j := J) rfl rfl) ?_
        refine tq_iinc (v := (q.2 + 1)) (L' := [_, _, _, _, _, _, _]) dX8_layFits_266 rfl (Nat.le_of_ble_eq_true rfl) rfl rfl ?_
        refine tq_goto dX8_layFits_269 rfl ?_
        exact Bfm_layFits_b197 _ _ _ _ _ _ J
      · refine tq_aload_n dX8_layFits_222 rfl ?_
        refine tm_ga (j := 38) dX8_layFits_223 rfl rfl ?_
        refine tq_iload dX8_layFits_226 rfl ?_
        refine tm_ild dX8_layFits_228 rfl (fun x228 => ?_)
        refine tq_if_lt dX8_layFits_229 rfl ?_ ?_
        · exact wfm_layFits_j243 J ⟨some (.int q.1), rfl⟩ _ _ _ _ _
        · refine tq_aload_n dX8_layFits_232 rfl ?_
          refine tm_ga (j := 38) dX8_layFits_233 rfl rfl ?_
          refine tq_iload dX8_layFits_236 rfl ?_
          refine tm_ild dX8_layFits_238 rfl (fun x238 => ?_)
          refine tq_iload_n dX8_layFits_239 rfl ?_
          refine tq_icmp_le dX8_layFits_240 rfl ?_ ?_
          · refine tq_iconst (v := 1) dX8_layFits_259 (by decide) ?_
            refine tq_goto dX8_layFits_260 rfl ?_
            refine tq_istore (L' := [_, _, _, _, _, _, _]) dX8_layFits_264 (Nat.le_of_ble_eq_true rfl) (st1_jv (i := 4) (j := J) rfl rfl) ?_
            refine tq_iinc (v := (q.2 + 1)) (L' := [_, _, _, _, _, _, _]) dX8_layFits_266 rfl (Nat.le_of_ble_eq_true rfl) rfl rfl ?_
            refine tq_goto dX8_layFits_269 rfl ?_
            exact Bfm_layFits_b197 _ _ _ _ _ _ J
          · exact wfm_layFits_j243 J ⟨some (.int q.1), rfl⟩ _ _ _ _ _
theorem Sfm_layFits_b197 {G : ai_G} {d M : Nat} {h0 : ai_H} {α : Type} {P : α → Option ai_R → Prop} (s : mS) (v1 : Int32) (v2 : Int32) (v3 : Int32) (b0 : Int32) (b1 : Int32) (J : JV) {r : Int32 → Option α} (kk : ∀ (q : Int32) (J : JV × JV), Tj G (d + 4) 290 P (r q) 272 [some (.ref M), some (.int v1), some (.int v2), some (.int v3), J.1.1, some (.int q), J.2.1] [] (mH M s h0)) : Tj G (d + 4) 290 P ((lp (fm_layFits_b197 s v1 v2 v3) (b0, b1)).bind r) 197 [some (.ref M), some (.int v1), some (.int v2), some (.int v3), J.1, some (.int b0), some (.int b1)] [] (mH M s h0) := tq_lp1 (J := J) (fun q J => wfm_layFits_b197 s v1 v2 v3 q J) rfl rfl kk
abbrev Pfm_layFits_b286 (G : ai_G) (d M : Nat) (h0 : ai_H) (v1 : Int32) (v2 : Int32) (v3 : Int32) : (Int32 × mS) ⊕ mS → Option ai_R → Prop := Sum.elim (fun (q : Int32 × mS) run => ∃ J : JV × JV, run = ai_run G (d + 4) 290 286 [some (.ref M), some (.int v1), some (.int v2), some (.int v3), J.1.1, J.2.1, some (.int q.1)] [] (mH M q.2 h0)) (fun (q : mS) run => ∃ J : JV × JV × JV, run = ai_run G (d + 4) 290 324 [some (.ref M), some (.int v1), some (.int v2), some (.int v3), J.1.1, J.2.1.1, J.2.2.1] [] (mH M q h0))
theorem Bfm_layFits_b286 {G : ai_G} {d M : Nat} {h0 : ai_H} (v1 : Int32) (v2 : Int32) (v3 : Int32) (b0 : Int32) (b1 : mS) (J : JV × JV) : Tj G (d + 4) 290 (Pfm_layFits_b286 G d M h0 v1 v2 v3) (some (.inl (b0, b1))) 286 [some (.ref M), some (.int v1), some (.int v2), some (.int v3), J.1.1, J.2.1, some (.int b0)] [] (mH M b1 h0) := tq_back J rfl rfl
theorem Efm_layFits_b286 {G : ai_G} {d M : Nat} {h0 : ai_H} (v1 : Int32) (v2 : Int32) (v3 : Int32) (b0 : mS) (J : JV × JV × JV) : Tj G (d + 4) 290 (Pfm_layFits_b286 G d M h0 v1 v2 v3) (some (.inr b0)) 324 [some (.ref M), some (.int v1), some (.int v2), some (.int v3), J.1.1, J.2.1.1, J.2.2.1] [] (mH M b0 h0) := tq_exit J rfl rfl
theorem wfm_layFits_b286 {G : ai_G} {d M : Nat} {h0 : ai_H} (v1 : Int32) (v2 : Int32) (v3 : Int32) (q : Int32 × mS) (J : JV × JV) : Tj G (d + 4) 290 (Pfm_layFits_b286 G d M h0 v1 v2 v3) (fm_layFits_b286 v1 v2 v3 q) 286 [some (.ref M), some (.int v1), some (.int v2), some (.int v3), J.1.1, J.2.1, some (.int q.1)] [] (mH M q.2 h0) := by
  unfold fm_layFits_b286
  refine tq_iload dX8_layFits_286 rfl ?_
  refine tq_aload_n dX8_layFits_288 rfl ?_
  refine tm_gi (k9 := 47) dX8_layFits_289 rfl rfl ?_
  refine tq_icmp_ge dX8_layFits_292 rfl ?_ ?_
  · exact Efm_layFits_b286 _ _ _ _ (J.1, J.2, ⟨some (.int q.1), rfl⟩)
  · refine tq_aload_n dX8_layFits_295 rfl ?_
    refine tm_ga (j := 42) dX8_layFits_296 rfl rfl ?_
    refine tq_iconst (v := 3) dX8_layFits_299 (by decide) ?_
    refine tq_iload dX8_layFits_300 rfl ?_
    refine tq_imul dX8_layFits_302 ?_
    refine tq_aload_n dX8_layFits_303 rfl ?_
    refine tm_ga (j := 25) dX8_layFits_304 rfl rfl ?_
    refine tq_iload dX8_layFits_307 rfl ?_
    refine tm_ild dX8_layFits_309 rfl (fun x309 => ?_)
    refine tq_iadd dX8_layFits_310 ?_
    refine tq_iconst (v := 1) dX8_layFits_311 (by decide) ?_
    refine tq_iadd dX8_layFits_312 ?_
    refine tq_dup2 dX8_layFits_313 rfl rfl ?_
    refine tm_ild dX8_layFits_314 rfl (fun x314 => ?_)
    refine tq_iconst (v := 1) dX8_layFits_315 (by decide) ?_
    refine tq_iadd dX8_layFits_316 ?_
    refine tm_ist dX8_layFits_317 rfl (fun s317 => ?_)
    refine tq_iinc (v := (q.1 + 1)) (L' := [_, _, _, _, _, _, _]) dX8_layFits_318 rfl (Nat.le_of_ble_eq_true rfl) rfl (st1_jv (i := 5) (j := J.2) rfl rfl) ?_
    refine tq_goto dX8_layFits_321 rfl ?_
    exact Bfm_layFits_b286 _ _ _ _ _ (J.1, J.2)
theorem Sfm_layFits_b286 {G : ai_G} {d M : Nat} {h0 : ai_H} {α : Type} {P : α → Option ai_R → Prop} (v1 : Int32) (v2 : Int32) (v3 : Int32) (b0 : Int32) (b1 : mS) (J : JV × JV) {r : mS → Option α} (kk : ∀ (q : mS) (J : JV × JV × JV), Tj G (d + 4) 290 P (r q) 324 [some (.ref M), some (.int v1), some (.int v2), some (.int v3), J.1.1, J.2.1.1, J.2.2.1] [] (mH M q h0)) : Tj G (d + 4) 290 P ((lp (fm_layFits_b286 v1 v2 v3) (b0, b1)).bind r) 286 [some (.ref M), some (.int v1), some (.int v2), some (.int v3), J.1.1, J.2.1, some (.int b0)] [] (mH M b1 h0) := tq_lp1 (J := J) (fun q J => wfm_layFits_b286 v1 v2 v3 q J) rfl rfl kk
theorem wfm_layFits_j272 {G : ai_G} {d M : Nat} {h0 : ai_H} (j4 : JV) (j6 : JV)   (s : mS) (v1 : Int32) (v2 : Int32) (v3 : Int32) (v5 : Int32): Tj G (d + 4) 290 (Pfm_layFits_b25 G d M h0 v1) (fm_layFits_j272 s v1 v2 v3 v5) 272 [some (.ref M), some (.int v1), some (.int v2), some (.int v3), j4.1, some (.int v5), j6.1] [] (mH M s h0) := by
  unfold fm_layFits_j272
  refine tq_iload dX8_layFits_272 rfl ?_
  refine tq_if_ne dX8_layFits_274 rfl ?_ ?_
  · refine tq_iinc (v := (v2 + 1)) (L' := [_, _, _, _, _, _, _]) dX8_layFits_280 rfl (Nat.le_of_ble_eq_true rfl) rfl rfl ?_
    refine tq_iconst (v := 0) dX8_layFits_283 (by decide) ?_
    refine tq_istore (L' := [_, _, _, _, _, _, _]) dX8_layFits_284 (Nat.le_of_ble_eq_true rfl) rfl ?_
    refine Sfm_layFits_b286 _ _ _ _ _ (j4, ⟨some (.int v5), rfl⟩) (fun q286 J286 => ?_)
    refine tq_iinc (v := (v3 + 1)) (L' := [_, _, _, _, _, _, _]) dX8_layFits_324 rfl (Nat.le_of_ble_eq_true rfl) rfl rfl ?_
    refine tq_goto dX8_layFits_327 rfl ?_
    exact Bfm_layFits_b25 _ _ _ _ (J286.1, J286.2.1, J286.2.2)
  · refine tq_goto dX8_layFits_277 rfl ?_
    refine tq_iinc (v := (v3 + 1)) (L' := [_, _, _, _, _, _, _]) dX8_layFits_324 rfl (Nat.le_of_ble_eq_true rfl) rfl rfl ?_
    refine tq_goto dX8_layFits_327 rfl ?_
    exact Bfm_layFits_b25 _ _ _ _ (j4, ⟨some (.int v5), rfl⟩, j6)
theorem wfm_layFits_b25 {G : ai_G} {d M : Nat} {h0 : ai_H} (v1 : Int32) (q : Int32 × Int32 × mS) (J : JV × JV × JV) : Tj G (d + 4) 290 (Pfm_layFits_b25 G d M h0 v1) (fm_layFits_b25 v1 q) 25 [some (.ref M), some (.int v1), some (.int q.1), some (.int q.2.1), J.1.1, J.2.1.1, J.2.2.1] [] (mH M q.2.2 h0) := by
  unfold fm_layFits_b25
  refine tq_iload_n dX8_layFits_25 rfl ?_
  refine tq_iconst (v := 3) dX8_layFits_26 (by decide) ?_
  refine tq_aload_n dX8_layFits_27 rfl ?_
  refine tm_gi (k9 := 47) dX8_layFits_28 rfl rfl ?_
  refine ts_c2_i dX8_layFits_31 rfl rfl rfl (Nat.le_of_ble_eq_true rfl) (wfm_power (d := d + 3) _ _) (fun p31 => ?_)
  refine tq_icmp_ge dX8_layFits_34 rfl ?_ ?_
  · exact Efm_layFits_b25 _ _ _ (⟨some (.ref M), rfl⟩, ⟨some (.int v1), rfl⟩, ⟨some (.int q.2.1), rfl⟩, J.1, J.2.1, J.2.2)
  · refine tq_aload_n dX8_layFits_37 rfl ?_
    refine tm_gi (k9 := 48) dX8_layFits_38 rfl rfl ?_
    refine tq_if_le dX8_layFits_41 rfl ?_ ?_
    · exact Efm_layFits_b25 _ _ _ (⟨some (.ref M), rfl⟩, ⟨some (.int v1), rfl⟩, ⟨some (.int q.2.1), rfl⟩, J.1, J.2.1, J.2.2)
    · refine tq_iconst (v := 0) dX8_layFits_44 (by decide) ?_
      refine tq_istore (L' := [_, _, _, _, _, _, _]) dX8_layFits_45 (Nat.le_of_ble_eq_true rfl) rfl ?_
      refine Sfm_layFits_b47 _ _ _ _ _ (J.2.1, J.2.2) (fun q47 J47 => ?_)
      refine tq_iconst (v := 0) dX8_layFits_68 (by decide) ?_
      refine tq_istore (L' := [_, _, _, _, _, _, _]) dX8_layFits_69 (Nat.le_of_ble_eq_true rfl) rfl ?_
      refine Sfm_layFits_b71 _ _ _ _ _ (J47.2.1, J47.2.2) (fun q71 J71 => ?_)
      refine tq_aload_n dX8_layFits_97 rfl ?_
      refine tm_ga (j := 23) dX8_layFits_98 rfl rfl ?_
      refine tq_iconst (v := 0) dX8_layFits_101 (by decide) ?_
      refine tq_aload_n dX8_layFits_102 rfl ?_
      refine tm_ga (j := 19) dX8_layFits_103 rfl rfl ?_
      refine tq_iconst (v := 0) dX8_layFits_106 (by decide) ?_
      refine tm_ild dX8_layFits_107 rfl (fun x107 => ?_)
      refine tm_ist dX8_layFits_108 rfl (fun s108 => ?_)
      refine tq_iload_n dX8_layFits_109 rfl ?_
      refine tq_istore (L' := [_, _, _, _, _, _, _]) dX8_layFits_110 (Nat.le_of_ble_eq_true rfl) rfl ?_
      refine tq_iconst (v := 0) dX8_layFits_112 (by decide) ?_
      refine tq_istore (L' := [_, _, _, _, _, _, _]) dX8_layFits_113 (Nat.le_of_ble_eq_true rfl) rfl ?_
      refine Sfm_layFits_b115 _ _ _ _ _ _ J71.2.2 (fun q115 J115 => ?_)
      refine tq_iconst (v := 1) dX8_layFits_191 (by decide) ?_
      refine tq_istore (L' := [_, _, _, _, _, _, _]) dX8_layFits_192 (Nat.le_of_ble_eq_true rfl) (st1_jv (i := 4) (j := J115.1) rfl rfl) ?_
      refine tq_iconst (v := 0) dX8_layFits_194 (by decide) ?_
      refine tq_istore (L' := [_, _, _, _, _, _, _]) dX8_layFits_195 (Nat.le_of_ble_eq_true rfl) rfl ?_
      refine Sfm_layFits_b197 _ _ _ _ _ _ J115.1 (fun q197 J197 => ?_)
      exact wfm_layFits_j272 J197.1 J197.2 _ _ _ _ _
theorem Sfm_layFits_b25 {G : ai_G} {d M : Nat} {h0 : ai_H} {α : Type} {P : α → Option ai_R → Prop} (v1 : Int32) (b0 : Int32) (b1 : Int32) (b2 : mS) (J : JV × JV × JV) {r : (Int32 × mS) → Option α} (kk : ∀ (q : Int32 × mS) (J : JV × JV × JV × JV × JV × JV), Tj G (d + 4) 290 P (r q) 330 [J.1.1, J.2.1.1, some (.int q.1), J.2.2.1.1, J.2.2.2.1.1, J.2.2.2.2.1.1, J.2.2.2.2.2.1] [] (mH M q.2 h0)) : Tj G (d + 4) 290 P ((lp (fm_layFits_b25 v1) (b0, b1, b2)).bind r) 25 [some (.ref M), some (.int v1), some (.int b0), some (.int b1), J.1.1, J.2.1.1, J.2.2.1] [] (mH M b2 h0) := tq_lp1 (J := J) (fun q J => wfm_layFits_b25 v1 q J) rfl rfl kk
theorem wfm_layFits {G : ai_G} {d M : Nat} {h0 : ai_H} (s : mS) (v1 : Int32) : ∀ r, fm_layFits s v1 = some r → (PmI M h0) r (ai_call G (d + 5) 290 [.ref M, .int v1] (mH M s h0)) := by
  refine tq_meth (P := (PmI M h0)) (d := (d + 4)) (Nat.le_of_ble_eq_true rfl) ?_
  show Tj G (d + 4) 290 (PmI M h0) (fm_layFits s v1) 0 [some (.ref M), some (.int v1), none, none, none, none, none] [] (mH M s h0)
  unfold fm_layFits
  refine tq_iconst (v := 0) dX8_layFits_0 (by decide) ?_
  refine tq_istore_n (L' := [_, _, _, _, _, _, _]) dX8_layFits_1 (Nat.le_of_ble_eq_true rfl) rfl ?_
  refine tq_iconst (v := 0) dX8_layFits_2 (by decide) ?_
  refine tq_istore_n (L' := [_, _, _, _, _, _, _]) dX8_layFits_3 (Nat.le_of_ble_eq_true rfl) rfl ?_
  refine Sfm_layFits_b4 _ _ _ _ (⟨none, rfl⟩, ⟨none, rfl⟩, ⟨none, rfl⟩) (fun q4 J4 => ?_)
  refine tq_iconst (v := 0) dX8_layFits_23 (by decide) ?_
  refine tq_istore_n (L' := [_, _, _, _, _, _, _]) dX8_layFits_24 (Nat.le_of_ble_eq_true rfl) rfl ?_
  refine Sfm_layFits_b25 _ _ _ _ (J4.2.1, J4.2.2.1, J4.2.2.2) (fun q25 J25 => ?_)
  refine tq_iload_n dX8_layFits_330 rfl ?_
  exact tq_ireturn dX8_layFits_331 rfl rfl
theorem wfm_fits {G : ai_G} {d M : Nat} {h0 : ai_H} (s : mS) (v1 : Int32) : ∀ r, fm_fits s v1 = some r → (PmI M h0) r (ai_call G (d + 6) 291 [.ref M, .int v1] (mH M s h0)) := by
  refine tq_meth (P := (PmI M h0)) (d := (d + 5)) (Nat.le_of_ble_eq_true rfl) ?_
  show Tj G (d + 5) 291 (PmI M h0) (fm_fits s v1) 0 [some (.ref M), some (.int v1)] [] (mH M s h0)
  unfold fm_fits
  refine tq_aload_n dX8_fits_0 rfl ?_
  refine tq_iload_n dX8_fits_1 rfl ?_
  refine tm_c1_I dX8_fits_2 rfl rfl rfl (Nat.le_of_ble_eq_true rfl) (wfm_layFits (d := d) _ _) (fun p2 => ?_)
  exact tq_ireturn dX8_fits_5 rfl rfl
abbrev Pfm_sure_b35 (G : ai_G) (d M : Nat) (h0 : ai_H) (s : mS) (v1 : Int32) (v3 : Int32) : (Int32 × Int32) ⊕ Int32 → Option ai_R → Prop := Sum.elim (fun (q : Int32 × Int32) run => ∃ J : JV, run = ai_run G (d + 5) 293 35 [some (.ref M), some (.int v1), J.1, some (.int v3), some (.int q.1), some (.int q.2)] [] (mH M s h0)) (fun (q : Int32) run => ∃ J : JV × JV × JV × JV × JV, run = ai_run G (d + 5) 293 70 [J.1.1, J.2.1.1, J.2.2.1.1, J.2.2.2.1.1, some (.int q), J.2.2.2.2.1] [] (mH M s h0))
theorem Bfm_sure_b35 {G : ai_G} {d M : Nat} {h0 : ai_H} (s : mS) (v1 : Int32) (v3 : Int32) (b0 : Int32) (b1 : Int32) (J : JV) : Tj G (d + 5) 293 (Pfm_sure_b35 G d M h0 s v1 v3) (some (.inl (b0, b1))) 35 [some (.ref M), some (.int v1), J.1, some (.int v3), some (.int b0), some (.int b1)] [] (mH M s h0) := tq_back J rfl rfl
theorem Efm_sure_b35 {G : ai_G} {d M : Nat} {h0 : ai_H} (s : mS) (v1 : Int32) (v3 : Int32) (b0 : Int32) (J : JV × JV × JV × JV × JV) : Tj G (d + 5) 293 (Pfm_sure_b35 G d M h0 s v1 v3) (some (.inr b0)) 70 [J.1.1, J.2.1.1, J.2.2.1.1, J.2.2.2.1.1, some (.int b0), J.2.2.2.2.1] [] (mH M s h0) := tq_exit J rfl rfl
theorem wfm_sure_b35 {G : ai_G} {d M : Nat} {h0 : ai_H} (s : mS) (v1 : Int32) (v3 : Int32) (q : Int32 × Int32) (J : JV) : Tj G (d + 5) 293 (Pfm_sure_b35 G d M h0 s v1 v3) (fm_sure_b35 s v1 v3 q) 35 [some (.ref M), some (.int v1), J.1, some (.int v3), some (.int q.1), some (.int q.2)] [] (mH M s h0) := by
  unfold fm_sure_b35
  refine tq_iload dX8_sure_35 rfl ?_
  refine tq_iconst (v := 1) dX8_sure_37 (by decide) ?_
  refine tq_icmp_gt dX8_sure_38 rfl ?_ ?_
  · exact Efm_sure_b35 _ _ _ _ (⟨some (.ref M), rfl⟩, ⟨some (.int v1), rfl⟩, J, ⟨some (.int v3), rfl⟩, ⟨some (.int q.2), rfl⟩)
  · refine tq_aload_n dX8_sure_41 rfl ?_
    refine tm_ga (j := 42) dX8_sure_42 rfl rfl ?_
    refine tq_iconst (v := 3) dX8_sure_45 (by decide) ?_
    refine tq_iload_n dX8_sure_46 rfl ?_
    refine tq_iconst (v := 1) dX8_sure_47 (by decide) ?_
    refine tq_isub dX8_sure_48 ?_
    refine tq_imul dX8_sure_49 ?_
    refine tq_iload dX8_sure_50 rfl ?_
    refine tq_iadd dX8_sure_52 ?_
    refine tq_iconst (v := 1) dX8_sure_53 (by decide) ?_
    refine tq_iadd dX8_sure_54 ?_
    refine tm_ild dX8_sure_55 rfl (fun x55 => ?_)
    refine tq_iload_n dX8_sure_56 rfl ?_
    refine tq_icmp_ne dX8_sure_57 rfl ?_ ?_
    · refine tq_iinc (v := (q.2 + 1)) (L' := [_, _, _, _, _, _]) dX8_sure_64 rfl (Nat.le_of_ble_eq_true rfl) rfl rfl ?_
      refine tq_goto dX8_sure_67 rfl ?_
      exact Bfm_sure_b35 _ _ _ _ _ J
    · refine tq_iload dX8_sure_60 rfl ?_
      refine tq_istore (L' := [_, _, _, _, _, _]) dX8_sure_62 (Nat.le_of_ble_eq_true rfl) rfl ?_
      refine tq_iinc (v := (q.2 + 1)) (L' := [_, _, _, _, _, _]) dX8_sure_64 rfl (Nat.le_of_ble_eq_true rfl) rfl rfl ?_
      refine tq_goto dX8_sure_67 rfl ?_
      exact Bfm_sure_b35 _ _ _ _ _ J
theorem Sfm_sure_b35 {G : ai_G} {d M : Nat} {h0 : ai_H} {α : Type} {P : α → Option ai_R → Prop} (s : mS) (v1 : Int32) (v3 : Int32) (b0 : Int32) (b1 : Int32) (J : JV) {r : Int32 → Option α} (kk : ∀ (q : Int32) (J : JV × JV × JV × JV × JV), Tj G (d + 5) 293 P (r q) 70 [J.1.1, J.2.1.1, J.2.2.1.1, J.2.2.2.1.1, some (.int q), J.2.2.2.2.1] [] (mH M s h0)) : Tj G (d + 5) 293 P ((lp (fm_sure_b35 s v1 v3) (b0, b1)).bind r) 35 [some (.ref M), some (.int v1), J.1, some (.int v3), some (.int b0), some (.int b1)] [] (mH M s h0) := tq_lp1 (J := J) (fun q J => wfm_sure_b35 s v1 v3 q J) rfl rfl kk
theorem wfm_sure {G : ai_G} {d M : Nat} {h0 : ai_H} (s : mS) (v1 : Int32) (v2 : Int32) : ∀ r, fm_sure s v1 v2 = some r → (PmI M h0) r (ai_call G (d + 6) 293 [.ref M, .int v1, .int v2] (mH M s h0)) := by
  refine tq_meth (P := (PmI M h0)) (d := (d + 5)) (Nat.le_of_ble_eq_true rfl) ?_
  show Tj G (d + 5) 293 (PmI M h0) (fm_sure s v1 v2) 0 [some (.ref M), some (.int v1), some (.int v2), none, none, none] [] (mH M s h0)
  unfold fm_sure
  refine tq_iload_n dX8_sure_0 rfl ?_
  refine tq_iconst (v := 1) dX8_sure_1 (by decide) ?_
  refine tq_aload_n dX8_sure_2 rfl ?_
  refine tm_gi (k9 := 47) dX8_sure_3 rfl rfl ?_
  refine ts_c3_i dX8_sure_6 rfl rfl rfl (Nat.le_of_ble_eq_true rfl) (wfm_isIn (d := d + 4) _ _ _) (fun p6 => ?_)
  refine tq_if_ne dX8_sure_9 rfl ?_ ?_
  · refine tq_aload_n dX8_sure_15 rfl ?_
    refine tq_iload_n dX8_sure_16 rfl ?_
    refine tm_c1_I dX8_sure_17 rfl rfl rfl (Nat.le_of_ble_eq_true rfl) (wfm_layFits (d := d) _ _) (fun p17 => ?_)
    refine tq_istore_n (L' := [_, _, _, _, _, _]) dX8_sure_20 (Nat.le_of_ble_eq_true rfl) rfl ?_
    refine tq_iload_n dX8_sure_21 rfl ?_
    refine tq_if_ne dX8_sure_22 rfl ?_ ?_
    · refine tq_bipush (v := (-2)) dX8_sure_28 (by decide) ?_
      refine tq_istore (L' := [_, _, _, _, _, _]) dX8_sure_30 (Nat.le_of_ble_eq_true rfl) rfl ?_
      refine tq_iconst (v := (-1)) dX8_sure_32 (by decide) ?_
      refine tq_istore (L' := [_, _, _, _, _, _]) dX8_sure_33 (Nat.le_of_ble_eq_true rfl) rfl ?_
      refine Sfm_sure_b35 _ _ _ _ _ ⟨some (.int v2), rfl⟩ (fun q35 J35 => ?_)
      refine tq_iload dX8_sure_70 rfl ?_
      exact tq_ireturn dX8_sure_72 rfl rfl
    · refine tq_bipush (v := (-3)) dX8_sure_25 (by decide) ?_
      exact tq_ireturn dX8_sure_27 rfl rfl
  · refine tq_bipush (v := (-3)) dX8_sure_12 (by decide) ?_
    exact tq_ireturn dX8_sure_14 rfl rfl
abbrev Pfm_leftBy_b4 (G : ai_G) (d M : Nat) (h0 : ai_H) (s : mS) (v1 : Int32) : (Int32 × Int32) ⊕ Int32 → Option ai_R → Prop := Sum.elim (fun (q : Int32 × Int32) run => ∃ J : Unit, run = ai_run G d 296 4 [some (.ref M), some (.int v1), some (.int q.1), some (.int q.2)] [] (mH M s h0)) (fun (q : Int32) run => ∃ J : JV × JV × JV, run = ai_run G d 296 44 [J.1.1, J.2.1.1, some (.int q), J.2.2.1] [] (mH M s h0))
theorem Bfm_leftBy_b4 {G : ai_G} {d M : Nat} {h0 : ai_H} (s : mS) (v1 : Int32) (b0 : Int32) (b1 : Int32) (J : Unit) : Tj G d 296 (Pfm_leftBy_b4 G d M h0 s v1) (some (.inl (b0, b1))) 4 [some (.ref M), some (.int v1), some (.int b0), some (.int b1)] [] (mH M s h0) := tq_back J rfl rfl
theorem Efm_leftBy_b4 {G : ai_G} {d M : Nat} {h0 : ai_H} (s : mS) (v1 : Int32) (b0 : Int32) (J : JV × JV × JV) : Tj G d 296 (Pfm_leftBy_b4 G d M h0 s v1) (some (.inr b0)) 44 [J.1.1, J.2.1.1, some (.int b0), J.2.2.1] [] (mH M s h0) := tq_exit J rfl rfl
theorem wfm_leftBy_b4 {G : ai_G} {d M : Nat} {h0 : ai_H} (s : mS) (v1 : Int32) (q : Int32 × Int32) (J : Unit) : Tj G d 296 (Pfm_leftBy_b4 G d M h0 s v1) (fm_leftBy_b4 s v1 q) 4 [some (.ref M), some (.int v1), some (.int q.1), some (.int q.2)] [] (mH M s h0) := by
  unfold fm_leftBy_b4
  refine tq_iload_n dX8_leftBy_4 rfl ?_
  refine tq_iconst (v := 3) dX8_leftBy_5 (by decide) ?_
  refine tq_icmp_ge dX8_leftBy_6 rfl ?_ ?_
  · exact Efm_leftBy_b4 _ _ _ (⟨some (.ref M), rfl⟩, ⟨some (.int v1), rfl⟩, ⟨some (.int q.2), rfl⟩)
  · refine tq_aload_n dX8_leftBy_9 rfl ?_
    refine tm_ga (j := 42) dX8_leftBy_10 rfl rfl ?_
    refine tq_iconst (v := 3) dX8_leftBy_13 (by decide) ?_
    refine tq_iload_n dX8_leftBy_14 rfl ?_
    refine tq_imul dX8_leftBy_15 ?_
    refine tq_iload_n dX8_leftBy_16 rfl ?_
    refine tq_iadd dX8_leftBy_17 ?_
    refine tm_ild dX8_leftBy_18 rfl (fun x18 => ?_)
    refine tq_iload_n dX8_leftBy_19 rfl ?_
    refine tq_icmp_le dX8_leftBy_20 rfl ?_ ?_
    · refine tq_iload_n dX8_leftBy_36 rfl ?_
      refine tq_istore_n (L' := [_, _, _, _]) dX8_leftBy_37 (Nat.le_of_ble_eq_true rfl) rfl ?_
      refine tq_iinc (v := (q.2 + 1)) (L' := [_, _, _, _]) dX8_leftBy_38 rfl (Nat.le_of_ble_eq_true rfl) rfl rfl ?_
      refine tq_goto dX8_leftBy_41 rfl ?_
      exact Bfm_leftBy_b4 _ _ _ _ ()
    · refine tq_aload_n dX8_leftBy_23 rfl ?_
      refine tm_ga (j := 42) dX8_leftBy_24 rfl rfl ?_
      refine tq_iconst (v := 3) dX8_leftBy_27 (by decide) ?_
      refine tq_iload_n dX8_leftBy_28 rfl ?_
      refine tq_imul dX8_leftBy_29 ?_
      refine tq_iload_n dX8_leftBy_30 rfl ?_
      refine tq_iadd dX8_leftBy_31 ?_
      refine tm_ild dX8_leftBy_32 rfl (fun x32 => ?_)
      refine tq_goto dX8_leftBy_33 rfl ?_
      refine tq_istore_n (L' := [_, _, _, _]) dX8_leftBy_37 (Nat.le_of_ble_eq_true rfl) rfl ?_
      refine tq_iinc (v := (q.2 + 1)) (L' := [_, _, _, _]) dX8_leftBy_38 rfl (Nat.le_of_ble_eq_true rfl) rfl rfl ?_
      refine tq_goto dX8_leftBy_41 rfl ?_
      exact Bfm_leftBy_b4 _ _ _ _ ()
theorem Sfm_leftBy_b4 {G : ai_G} {d M : Nat} {h0 : ai_H} {α : Type} {P : α → Option ai_R → Prop} (s : mS) (v1 : Int32) (b0 : Int32) (b1 : Int32) (J : Unit) {r : Int32 → Option α} (kk : ∀ (q : Int32) (J : JV × JV × JV), Tj G d 296 P (r q) 44 [J.1.1, J.2.1.1, some (.int q), J.2.2.1] [] (mH M s h0)) : Tj G d 296 P ((lp (fm_leftBy_b4 s v1) (b0, b1)).bind r) 4 [some (.ref M), some (.int v1), some (.int b0), some (.int b1)] [] (mH M s h0) := tq_lp1 (J := J) (fun q J => wfm_leftBy_b4 s v1 q J) rfl rfl kk
theorem wfm_leftBy {G : ai_G} {d M : Nat} {h0 : ai_H} (s : mS) (v1 : Int32) : ∀ r, fm_leftBy s v1 = some r → (Pi (mH M s h0)) r (ai_call G (d + 1) 296 [.ref M, .int v1] (mH M s h0)) := by
  refine tq_meth (P := (Pi (mH M s h0))) (d := d) (Nat.le_of_ble_eq_true rfl) ?_
  show Tj G d 296 (Pi (mH M s h0)) (fm_leftBy s v1) 0 [some (.ref M), some (.int v1), none, none] [] (mH M s h0)
  unfold fm_leftBy
  refine tq_iconst (v := 0) dX8_leftBy_0 (by decide) ?_
  refine tq_istore_n (L' := [_, _, _, _]) dX8_leftBy_1 (Nat.le_of_ble_eq_true rfl) rfl ?_
  refine tq_iconst (v := 0) dX8_leftBy_2 (by decide) ?_
  refine tq_istore_n (L' := [_, _, _, _]) dX8_leftBy_3 (Nat.le_of_ble_eq_true rfl) rfl ?_
  refine Sfm_leftBy_b4 _ _ _ _ () (fun q4 J4 => ?_)
  refine tq_iload_n dX8_leftBy_44 rfl ?_
  exact tq_ireturn dX8_leftBy_45 rfl rfl
abbrev Pfm_ask_b24 (G : ai_G) (d M : Nat) (h0 : ai_H) (s : mS) (v1 : Int32) : (Int32 × Int32) ⊕ Int32 → Option ai_R → Prop := Sum.elim (fun (q : Int32 × Int32) run => ∃ J : JV, run = ai_run G (d + 5) 297 24 [some (.ref M), some (.int v1), J.1, some (.int q.1), some (.int q.2)] [] (mH M s h0)) (fun (q : Int32) run => ∃ J : JV × JV, run = ai_run G (d + 5) 297 60 [some (.ref M), some (.int v1), J.1.1, some (.int q), J.2.1] [] (mH M s h0))
theorem Bfm_ask_b24 {G : ai_G} {d M : Nat} {h0 : ai_H} (s : mS) (v1 : Int32) (b0 : Int32) (b1 : Int32) (J : JV) : Tj G (d + 5) 297 (Pfm_ask_b24 G d M h0 s v1) (some (.inl (b0, b1))) 24 [some (.ref M), some (.int v1), J.1, some (.int b0), some (.int b1)] [] (mH M s h0) := tq_back J rfl rfl
theorem Efm_ask_b24 {G : ai_G} {d M : Nat} {h0 : ai_H} (s : mS) (v1 : Int32) (b0 : Int32) (J : JV × JV) : Tj G (d + 5) 297 (Pfm_ask_b24 G d M h0 s v1) (some (.inr b0)) 60 [some (.ref M), some (.int v1), J.1.1, some (.int b0), J.2.1] [] (mH M s h0) := tq_exit J rfl rfl
theorem wfm_ask_b24 {G : ai_G} {d M : Nat} {h0 : ai_H} (s : mS) (v1 : Int32) (q : Int32 × Int32) (J : JV) : Tj G (d + 5) 297 (Pfm_ask_b24 G d M h0 s v1) (fm_ask_b24 s v1 q) 24 [some (.ref M), some (.int v1), J.1, some (.int q.1), some (.int q.2)] [] (mH M s h0) := by
  unfold fm_ask_b24
  refine tq_iload dX8_ask_24 rfl ?_
  refine tq_aload_n dX8_ask_26 rfl ?_
  refine tm_gi (k9 := 47) dX8_ask_27 rfl rfl ?_
  refine tq_icmp_ge dX8_ask_30 rfl ?_ ?_
  · exact Efm_ask_b24 _ _ _ (J, ⟨some (.int q.2), rfl⟩)
  · refine tq_aload_n dX8_ask_33 rfl ?_
    refine tq_iload dX8_ask_34 rfl ?_
    refine tm_c1_i dX8_ask_36 rfl rfl rfl (Nat.le_of_ble_eq_true rfl) (wfm_leftBy (d := d + 4) _ _) (fun p36 => ?_)
    refine tq_aload_n dX8_ask_39 rfl ?_
    refine tq_iload_n dX8_ask_40 rfl ?_
    refine tm_c1_i dX8_ask_41 rfl rfl rfl (Nat.le_of_ble_eq_true rfl) (wfm_leftBy (d := d + 4) _ _) (fun p41 => ?_)
    refine tq_icmp_ge dX8_ask_44 rfl ?_ ?_
    · refine tq_iload_n dX8_ask_52 rfl ?_
      refine tq_istore_n (L' := [_, _, _, _, _]) dX8_ask_53 (Nat.le_of_ble_eq_true rfl) (st1_jv (i := 2) (j := J) rfl rfl) ?_
      refine tq_iinc (v := (q.2 + 1)) (L' := [_, _, _, _, _]) dX8_ask_54 rfl (Nat.le_of_ble_eq_true rfl) rfl rfl ?_
      refine tq_goto dX8_ask_57 rfl ?_
      exact Bfm_ask_b24 _ _ _ _ J
    · refine tq_iload dX8_ask_47 rfl ?_
      refine tq_goto dX8_ask_49 rfl ?_
      refine tq_istore_n (L' := [_, _, _, _, _]) dX8_ask_53 (Nat.le_of_ble_eq_true rfl) (st1_jv (i := 2) (j := J) rfl rfl) ?_
      refine tq_iinc (v := (q.2 + 1)) (L' := [_, _, _, _, _]) dX8_ask_54 rfl (Nat.le_of_ble_eq_true rfl) rfl rfl ?_
      refine tq_goto dX8_ask_57 rfl ?_
      exact Bfm_ask_b24 _ _ _ _ J
theorem Sfm_ask_b24 {G : ai_G} {d M : Nat} {h0 : ai_H} {α : Type} {P : α → Option ai_R → Prop} (s : mS) (v1 : Int32) (b0 : Int32) (b1 : Int32) (J : JV) {r : Int32 → Option α} (kk : ∀ (q : Int32) (J : JV × JV), Tj G (d + 5) 297 P (r q) 60 [some (.ref M), some (.int v1), J.1.1, some (.int q), J.2.1] [] (mH M s h0)) : Tj G (d + 5) 297 P ((lp (fm_ask_b24 s v1) (b0, b1)).bind r) 24 [some (.ref M), some (.int v1), J.1, some (.int b0), some (.int b1)] [] (mH M s h0) := tq_lp1 (J := J) (fun q J => wfm_ask_b24 s v1 q J) rfl rfl kk
theorem wfm_ask {G : ai_G} {d M : Nat} {h0 : ai_H} (s : mS) (v1 : Int32) (v2 : Int32) : ∀ r, fm_ask s v1 v2 = some r → (PmI M h0) r (ai_call G (d + 6) 297 [.ref M, .int v1, .int v2] (mH M s h0)) := by
  refine tq_meth (P := (PmI M h0)) (d := (d + 5)) (Nat.le_of_ble_eq_true rfl) ?_
  show Tj G (d + 5) 297 (PmI M h0) (fm_ask s v1 v2) 0 [some (.ref M), some (.int v1), some (.int v2), none, none] [] (mH M s h0)
  unfold fm_ask
  refine tq_iload_n dX8_ask_0 rfl ?_
  refine tq_iconst (v := 0) dX8_ask_1 (by decide) ?_
  refine tq_iconst (v := 1) dX8_ask_2 (by decide) ?_
  refine ts_c3_i dX8_ask_3 rfl rfl rfl (Nat.le_of_ble_eq_true rfl) (wfm_isIn (d := d + 4) _ _ _) (fun p3 => ?_)
  refine tq_if_eq dX8_ask_6 rfl ?_ ?_
  · refine tq_iconst (v := (-1)) dX8_ask_17 (by decide) ?_
    exact tq_ireturn dX8_ask_18 rfl rfl
  · refine tq_aload_n dX8_ask_9 rfl ?_
    refine tq_iload_n dX8_ask_10 rfl ?_
    refine tm_c1_I dX8_ask_11 rfl rfl rfl (Nat.le_of_ble_eq_true rfl) (wfm_layFits (d := d) _ _) (fun p11 => ?_)
    refine tq_if_ne dX8_ask_14 rfl ?_ ?_
    · refine tq_iconst (v := 0) dX8_ask_19 (by decide) ?_
      refine tq_istore_n (L' := [_, _, _, _, _]) dX8_ask_20 (Nat.le_of_ble_eq_true rfl) rfl ?_
      refine tq_iconst (v := 1) dX8_ask_21 (by decide) ?_
      refine tq_istore (L' := [_, _, _, _, _]) dX8_ask_22 (Nat.le_of_ble_eq_true rfl) rfl ?_
      refine Sfm_ask_b24 _ _ _ _ ⟨some (.int v2), rfl⟩ (fun q24 J24 => ?_)
      refine tq_iload_n dX8_ask_60 rfl ?_
      refine tq_if_ne dX8_ask_61 rfl ?_ ?_
      · refine tq_aload_n dX8_ask_70 rfl ?_
        refine tq_iload_n dX8_ask_71 rfl ?_
        refine tm_c1_i dX8_ask_72 rfl rfl rfl (Nat.le_of_ble_eq_true rfl) (wfm_leftBy (d := d + 4) _ _) (fun p72 => ?_)
        exact tq_ireturn dX8_ask_75 rfl rfl
      · refine tq_iload_n dX8_ask_64 rfl ?_
        refine tq_iconst (v := 1) dX8_ask_65 (by decide) ?_
        refine tq_iadd dX8_ask_66 ?_
        refine tq_goto dX8_ask_67 rfl ?_
        exact tq_ireturn dX8_ask_75 rfl rfl
    · refine tq_iconst (v := (-1)) dX8_ask_17 (by decide) ?_
      exact tq_ireturn dX8_ask_18 rfl rfl
theorem wfm_isBox {G : ai_G} {d : Nat} {h : ai_H} (v0 : Int32) : ∀ r, fm_isBox v0 = some r → (Pi h) r (ai_call G (d + 1) 299 [.int v0] h) := by
  refine tq_meth (P := (Pi h)) (d := d) (Nat.le_of_ble_eq_true rfl) ?_
  show Tj G d 299 (Pi h) (fm_isBox v0) 0 [some (.int v0)] [] h
  unfold fm_isBox
  refine tq_iload_n dX8_isBox_0 rfl ?_
  refine tq_if_lt dX8_isBox_1 rfl ?_ ?_
  · refine tq_iconst (v := 0) dX8_isBox_13 (by decide) ?_
    exact tq_ireturn dX8_isBox_14 (by decide) rfl
  · refine tq_iload_n dX8_isBox_4 rfl ?_
    refine tq_iconst (v := 3) dX8_isBox_5 (by decide) ?_
    refine tq_icmp_ge dX8_isBox_6 rfl ?_ ?_
    · refine tq_iconst (v := 0) dX8_isBox_13 (by decide) ?_
      exact tq_ireturn dX8_isBox_14 (by decide) rfl
    · refine tq_iconst (v := 1) dX8_isBox_9 (by decide) ?_
      refine tq_goto dX8_isBox_10 rfl ?_
      exact tq_ireturn dX8_isBox_14 (by decide) rfl
abbrev Pfm_image_b18 (G : ai_G) (d M : Nat) (h0 : ai_H) (v1 : Int32) : (Int32 × mS) ⊕ mS → Option ai_R → Prop := Sum.elim (fun (q : Int32 × mS) run => ∃ J : Unit, run = ai_run G (d + 3) 300 18 [some (.ref M), some (.int v1), some (.int q.1)] [] (mH M q.2 h0)) (fun (q : mS) run => ∃ J : JV × JV, run = ai_run G (d + 3) 300 47 [some (.ref M), J.1.1, J.2.1] [] (mH M q h0))
theorem Bfm_image_b18 {G : ai_G} {d M : Nat} {h0 : ai_H} (v1 : Int32) (b0 : Int32) (b1 : mS) (J : Unit) : Tj G (d + 3) 300 (Pfm_image_b18 G d M h0 v1) (some (.inl (b0, b1))) 18 [some (.ref M), some (.int v1), some (.int b0)] [] (mH M b1 h0) := tq_back J rfl rfl
theorem Efm_image_b18 {G : ai_G} {d M : Nat} {h0 : ai_H} (v1 : Int32) (b0 : mS) (J : JV × JV) : Tj G (d + 3) 300 (Pfm_image_b18 G d M h0 v1) (some (.inr b0)) 47 [some (.ref M), J.1.1, J.2.1] [] (mH M b0 h0) := tq_exit J rfl rfl
theorem wfm_image_b18 {G : ai_G} {d M : Nat} {h0 : ai_H} (v1 : Int32) (q : Int32 × mS) (J : Unit) : Tj G (d + 3) 300 (Pfm_image_b18 G d M h0 v1) (fm_image_b18 v1 q) 18 [some (.ref M), some (.int v1), some (.int q.1)] [] (mH M q.2 h0) := by
  unfold fm_image_b18
  refine tq_iload_n dX8_image_18 rfl ?_
  refine tq_bipush (v := 28) dX8_image_19 (by decide) ?_
  refine tq_icmp_ge dX8_image_21 rfl ?_ ?_
  · exact Efm_image_b18 _ _ (⟨some (.int v1), rfl⟩, ⟨some (.int q.1), rfl⟩)
  · refine tq_aload_n dX8_image_24 rfl ?_
    refine tm_ga (j := 44) dX8_image_25 rfl rfl ?_
    refine tq_bipush (v := 28) dX8_image_28 (by decide) ?_
    refine tq_iload_n dX8_image_30 rfl ?_
    refine tq_imul dX8_image_31 ?_
    refine tq_iload_n dX8_image_32 rfl ?_
    refine tq_iadd dX8_image_33 ?_
    refine tq_aload_n dX8_image_34 rfl ?_
    refine tm_ga (j := 22) dX8_image_35 rfl rfl ?_
    refine tq_iload_n dX8_image_38 rfl ?_
    refine tm_ild dX8_image_39 rfl (fun x39 => ?_)
    refine tm_ist dX8_image_40 rfl (fun s40 => ?_)
    refine tq_iinc (v := (q.1 + 1)) (L' := [_, _, _]) dX8_image_41 rfl (Nat.le_of_ble_eq_true rfl) rfl rfl ?_
    refine tq_goto dX8_image_44 rfl ?_
    exact Bfm_image_b18 _ _ _ ()
theorem Sfm_image_b18 {G : ai_G} {d M : Nat} {h0 : ai_H} {α : Type} {P : α → Option ai_R → Prop} (v1 : Int32) (b0 : Int32) (b1 : mS) (J : Unit) {r : mS → Option α} (kk : ∀ (q : mS) (J : JV × JV), Tj G (d + 3) 300 P (r q) 47 [some (.ref M), J.1.1, J.2.1] [] (mH M q h0)) : Tj G (d + 3) 300 P ((lp (fm_image_b18 v1) (b0, b1)).bind r) 18 [some (.ref M), some (.int v1), some (.int b0)] [] (mH M b1 h0) := tq_lp1 (J := J) (fun q J => wfm_image_b18 v1 q J) rfl rfl kk
theorem wfm_image {G : ai_G} {d M : Nat} {h0 : ai_H} (s : mS) (v1 : Int32) : ∀ r, fm_image s v1 = some r → (PmI M h0) r (ai_call G (d + 4) 300 [.ref M, .int v1] (mH M s h0)) := by
  refine tq_meth (P := (PmI M h0)) (d := (d + 3)) (Nat.le_of_ble_eq_true rfl) ?_
  show Tj G (d + 3) 300 (PmI M h0) (fm_image s v1) 0 [some (.ref M), some (.int v1), none] [] (mH M s h0)
  unfold fm_image
  refine tq_iload_n dX8_image_0 rfl ?_
  refine ts_c1_i dX8_image_1 rfl rfl rfl (Nat.le_of_ble_eq_true rfl) (wfm_isBox (d := d + 2) _) (fun p1 => ?_)
  refine tq_if_ne dX8_image_4 rfl ?_ ?_
  · refine tq_aload_n dX8_image_9 rfl ?_
    refine tm_ga (j := 43) dX8_image_10 rfl rfl ?_
    refine tq_iload_n dX8_image_13 rfl ?_
    refine tq_iconst (v := 1) dX8_image_14 (by decide) ?_
    refine tm_bst dX8_image_15 rfl (fun s15 => ?_)
    refine tq_iconst (v := 0) dX8_image_16 (by decide) ?_
    refine tq_istore_n (L' := [_, _, _]) dX8_image_17 (Nat.le_of_ble_eq_true rfl) rfl ?_
    refine Sfm_image_b18 _ _ _ () (fun q18 J18 => ?_)
    refine tq_aload_n dX8_image_47 rfl ?_
    refine tm_c0_I dX8_image_48 rfl rfl rfl (Nat.le_of_ble_eq_true rfl) (wfm_over (d := d) _) (fun p48 => ?_)
    refine ts_c1_i dX8_image_51 rfl rfl rfl (Nat.le_of_ble_eq_true rfl) (wfm_members (d := d + 2) _) (fun p51 => ?_)
    exact tq_ireturn dX8_image_54 rfl rfl
  · refine tq_iconst (v := (-1)) dX8_image_7 (by decide) ?_
    exact tq_ireturn dX8_image_8 rfl rfl
abbrev Pfm_back_b20 (G : ai_G) (d M : Nat) (h0 : ai_H) (v1 : Int32) : (Int32 × mS) ⊕ mS → Option ai_R → Prop := Sum.elim (fun (q : Int32 × mS) run => ∃ J : Unit, run = ai_run G (d + 3) 302 20 [some (.ref M), some (.int v1), some (.int q.1)] [] (mH M q.2 h0)) (fun (q : mS) run => ∃ J : JV × JV, run = ai_run G (d + 3) 302 49 [some (.ref M), J.1.1, J.2.1] [] (mH M q h0))
theorem Bfm_back_b20 {G : ai_G} {d M : Nat} {h0 : ai_H} (v1 : Int32) (b0 : Int32) (b1 : mS) (J : Unit) : Tj G (d + 3) 302 (Pfm_back_b20 G d M h0 v1) (some (.inl (b0, b1))) 20 [some (.ref M), some (.int v1), some (.int b0)] [] (mH M b1 h0) := tq_back J rfl rfl
theorem Efm_back_b20 {G : ai_G} {d M : Nat} {h0 : ai_H} (v1 : Int32) (b0 : mS) (J : JV × JV) : Tj G (d + 3) 302 (Pfm_back_b20 G d M h0 v1) (some (.inr b0)) 49 [some (.ref M), J.1.1, J.2.1] [] (mH M b0 h0) := tq_exit J rfl rfl
theorem wfm_back_b20 {G : ai_G} {d M : Nat} {h0 : ai_H} (v1 : Int32) (q : Int32 × mS) (J : Unit) : Tj G (d + 3) 302 (Pfm_back_b20 G d M h0 v1) (fm_back_b20 v1 q) 20 [some (.ref M), some (.int v1), some (.int q.1)] [] (mH M q.2 h0) := by
  unfold fm_back_b20
  refine tq_iload_n dX8_back_20 rfl ?_
  refine tq_bipush (v := 28) dX8_back_21 (by decide) ?_
  refine tq_icmp_ge dX8_back_23 rfl ?_ ?_
  · exact Efm_back_b20 _ _ (⟨some (.int v1), rfl⟩, ⟨some (.int q.1), rfl⟩)
  · refine tq_aload_n dX8_back_26 rfl ?_
    refine tm_ga (j := 22) dX8_back_27 rfl rfl ?_
    refine tq_iload_n dX8_back_30 rfl ?_
    refine tq_aload_n dX8_back_31 rfl ?_
    refine tm_ga (j := 44) dX8_back_32 rfl rfl ?_
    refine tq_bipush (v := 28) dX8_back_35 (by decide) ?_
    refine tq_iload_n dX8_back_37 rfl ?_
    refine tq_imul dX8_back_38 ?_
    refine tq_iload_n dX8_back_39 rfl ?_
    refine tq_iadd dX8_back_40 ?_
    refine tm_ild dX8_back_41 rfl (fun x41 => ?_)
    refine tm_ist dX8_back_42 rfl (fun s42 => ?_)
    refine tq_iinc (v := (q.1 + 1)) (L' := [_, _, _]) dX8_back_43 rfl (Nat.le_of_ble_eq_true rfl) rfl rfl ?_
    refine tq_goto dX8_back_46 rfl ?_
    exact Bfm_back_b20 _ _ _ ()
theorem Sfm_back_b20 {G : ai_G} {d M : Nat} {h0 : ai_H} {α : Type} {P : α → Option ai_R → Prop} (v1 : Int32) (b0 : Int32) (b1 : mS) (J : Unit) {r : mS → Option α} (kk : ∀ (q : mS) (J : JV × JV), Tj G (d + 3) 302 P (r q) 49 [some (.ref M), J.1.1, J.2.1] [] (mH M q h0)) : Tj G (d + 3) 302 P ((lp (fm_back_b20 v1) (b0, b1)).bind r) 20 [some (.ref M), some (.int v1), some (.int b0)] [] (mH M b1 h0) := tq_lp1 (J := J) (fun q J => wfm_back_b20 v1 q J) rfl rfl kk
theorem wfm_back {G : ai_G} {d M : Nat} {h0 : ai_H} (s : mS) (v1 : Int32) : ∀ r, fm_back s v1 = some r → (PmI M h0) r (ai_call G (d + 4) 302 [.ref M, .int v1] (mH M s h0)) := by
  refine tq_meth (P := (PmI M h0)) (d := (d + 3)) (Nat.le_of_ble_eq_true rfl) ?_
  show Tj G (d + 3) 302 (PmI M h0) (fm_back s v1) 0 [some (.ref M), some (.int v1), none] [] (mH M s h0)
  unfold fm_back
  refine tq_iload_n dX8_back_0 rfl ?_
  refine ts_c1_i dX8_back_1 rfl rfl rfl (Nat.le_of_ble_eq_true rfl) (wfm_isBox (d := d + 2) _) (fun p1 => ?_)
  refine tq_if_eq dX8_back_4 rfl ?_ ?_
  · refine tq_iconst (v := (-1)) dX8_back_16 (by decide) ?_
    exact tq_ireturn dX8_back_17 rfl rfl
  · refine tq_aload_n dX8_back_7 rfl ?_
    refine tm_ga (j := 43) dX8_back_8 rfl rfl ?_
    refine tq_iload_n dX8_back_11 rfl ?_
    refine tm_bld dX8_back_12 rfl (fun x12 => ?_)
    refine tq_if_ne dX8_back_13 rfl ?_ ?_
    · refine tq_iconst (v := 0) dX8_back_18 (by decide) ?_
      refine tq_istore_n (L' := [_, _, _]) dX8_back_19 (Nat.le_of_ble_eq_true rfl) rfl ?_
      refine Sfm_back_b20 _ _ _ () (fun q20 J20 => ?_)
      refine tq_aload_n dX8_back_49 rfl ?_
      refine tq_iconst (v := 0) dX8_back_50 (by decide) ?_
      refine tm_pi dX8_back_51 rfl rfl (fun s51 => ?_)
      refine tq_aload_n dX8_back_54 rfl ?_
      refine tq_iconst (v := 0) dX8_back_55 (by decide) ?_
      refine tm_pi dX8_back_56 rfl rfl (fun s56 => ?_)
      refine tq_aload_n dX8_back_59 rfl ?_
      refine tm_c0_I dX8_back_60 rfl rfl rfl (Nat.le_of_ble_eq_true rfl) (wfm_over (d := d) _) (fun p60 => ?_)
      refine ts_c1_i dX8_back_63 rfl rfl rfl (Nat.le_of_ble_eq_true rfl) (wfm_members (d := d + 2) _) (fun p63 => ?_)
      exact tq_ireturn dX8_back_66 rfl rfl
    · refine tq_iconst (v := (-1)) dX8_back_16 (by decide) ?_
      exact tq_ireturn dX8_back_17 rfl rfl
theorem wfm_about {G : ai_G} {d M : Nat} {h0 : ai_H} (s : mS) (v1 : Int32) : ∀ r, fm_about s v1 = some r → (Pi (mH M s h0)) r (ai_call G (d + 1) 304 [.ref M, .int v1] (mH M s h0)) := by
  refine tq_meth (P := (Pi (mH M s h0))) (d := d) (Nat.le_of_ble_eq_true rfl) ?_
  show Tj G d 304 (Pi (mH M s h0)) (fm_about s v1) 0 [some (.ref M), some (.int v1)] [] (mH M s h0)
  unfold fm_about
  refine tq_iload_n dX8_about_0 rfl ?_
  refine tq_case (fun c0 => ?_) (fun c0 => ?_)
  · rw [c0]
    refine tq_tsw (t := 68) dX8_about_1 (off := 67) (by decide) (by decide) ?_
    refine tq_aload_n dX8_about_68 rfl ?_
    refine tm_gi (k9 := 48) dX8_about_69 rfl rfl ?_
    exact tq_ireturn dX8_about_72 rfl rfl
  refine tq_case (fun c1 => ?_) (fun c1 => ?_)
  · rw [c1]
    refine tq_tsw (t := 73) dX8_about_1 (off := 72) (by decide) (by decide) ?_
    refine tq_aload_n dX8_about_73 rfl ?_
    refine tm_gi (k9 := 49) dX8_about_74 rfl rfl ?_
    exact tq_ireturn dX8_about_77 rfl rfl
  refine tq_case (fun c2 => ?_) (fun c2 => ?_)
  · rw [c2]
    refine tq_tsw (t := 78) dX8_about_1 (off := 77) (by decide) (by decide) ?_
    refine tq_aload_n dX8_about_78 rfl ?_
    refine tm_gi (k9 := 46) dX8_about_79 rfl rfl ?_
    exact tq_ireturn dX8_about_82 rfl rfl
  refine tq_case (fun c3 => ?_) (fun c3 => ?_)
  · rw [c3]
    refine tq_tsw (t := 83) dX8_about_1 (off := 82) (by decide) (by decide) ?_
    refine tq_aload_n dX8_about_83 rfl ?_
    refine tm_gi (k9 := 47) dX8_about_84 rfl rfl ?_
    exact tq_ireturn dX8_about_87 rfl rfl
  refine tq_case (fun c4 => ?_) (fun c4 => ?_)
  · rw [c4]
    refine tq_tsw (t := 88) dX8_about_1 (off := 87) (by decide) (by decide) ?_
    refine tq_aload_n dX8_about_88 rfl ?_
    refine tm_gi (k9 := 50) dX8_about_89 rfl rfl ?_
    exact tq_ireturn dX8_about_92 rfl rfl
  refine tq_case (fun c5 => ?_) (fun c5 => ?_)
  · rw [c5]
    refine tq_tsw (t := 93) dX8_about_1 (off := 92) (by decide) (by decide) ?_
    refine tq_aload_n dX8_about_93 rfl ?_
    refine tm_ga (j := 22) dX8_about_94 rfl rfl ?_
    refine tq_bipush (v := 27) dX8_about_97 (by decide) ?_
    refine tm_ild dX8_about_99 rfl (fun x99 => ?_)
    exact tq_ireturn dX8_about_100 rfl rfl
  refine tq_case (fun c6 => ?_) (fun c6 => ?_)
  · rw [c6]
    refine tq_tsw (t := 101) dX8_about_1 (off := 100) (by decide) (by decide) ?_
    refine tq_aload_n dX8_about_101 rfl ?_
    refine tm_gi (k9 := 57) dX8_about_102 rfl rfl ?_
    exact tq_ireturn dX8_about_105 rfl rfl
  refine tq_case (fun c7 => ?_) (fun c7 => ?_)
  · rw [c7]
    refine tq_tsw (t := 106) dX8_about_1 (off := 105) (by decide) (by decide) ?_
    refine tq_aload_n dX8_about_106 rfl ?_
    refine tm_gi (k9 := 58) dX8_about_107 rfl rfl ?_
    exact tq_ireturn dX8_about_110 rfl rfl
  refine tq_case (fun c8 => ?_) (fun c8 => ?_)
  · rw [c8]
    refine tq_tsw (t := 111) dX8_about_1 (off := 110) (by decide) (by decide) ?_
    refine tq_aload_n dX8_about_111 rfl ?_
    refine tm_gi (k9 := 75) dX8_about_112 rfl rfl ?_
    exact tq_ireturn dX8_about_115 rfl rfl
  refine tq_case (fun c9 => ?_) (fun c9 => ?_)
  · rw [c9]
    refine tq_tsw (t := 116) dX8_about_1 (off := 115) (by decide) (by decide) ?_
    refine tq_aload_n dX8_about_116 rfl ?_
    refine tm_gi (k9 := 76) dX8_about_117 rfl rfl ?_
    exact tq_ireturn dX8_about_120 rfl rfl
  refine tq_case (fun c10 => ?_) (fun c10 => ?_)
  · rw [c10]
    refine tq_tsw (t := 121) dX8_about_1 (off := 120) (by decide) (by decide) ?_
    refine tq_aload_n dX8_about_121 rfl ?_
    refine tm_gi (k9 := 1) dX8_about_122 rfl rfl ?_
    exact tq_ireturn dX8_about_125 rfl rfl
  refine tq_case (fun c11 => ?_) (fun c11 => ?_)
  · rw [c11]
    refine tq_tsw (t := 126) dX8_about_1 (off := 125) (by decide) (by decide) ?_
    refine tq_aload_n dX8_about_126 rfl ?_
    refine tm_gi (k9 := 21) dX8_about_127 rfl rfl ?_
    exact tq_ireturn dX8_about_130 rfl rfl
  refine tq_case (fun c12 => ?_) (fun c12 => ?_)
  · rw [c12]
    refine tq_tsw (t := 131) dX8_about_1 (off := 130) (by decide) (by decide) ?_
    refine tq_aload_n dX8_about_131 rfl ?_
    refine tm_gi (k9 := 61) dX8_about_132 rfl rfl ?_
    exact tq_ireturn dX8_about_135 rfl rfl
  refine tq_tsw (t := 136) dX8_about_1 (tsw_d (ks := [0, 1, 2, 3, 4, 5, 6, 7, 8, 9, 10, 11, 12]) (by decide) (by simp only [List.mem_cons, List.not_mem_nil, or_false]; rintro k (rfl | rfl | rfl | rfl | rfl | rfl | rfl | rfl | rfl | rfl | rfl | rfl | rfl) <;> assumption)) (by decide) ?_
  refine tq_iconst (v := (-1)) dX8_about_136 (by decide) ?_
  exact tq_ireturn dX8_about_137 rfl rfl

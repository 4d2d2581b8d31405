/-! WALKS of the component (printed by tools/decy.py) -/
set_option maxRecDepth 100000
theorem wfy_B_felt {G : ai_G} {d : Nat} {h0 : ai_H} (hO : hOld G h0) (s : yS) (v0 : Nat) (v1 : Int32) (v2 : Int32) (v3 : Int32) : ∀ r, fy_B_felt G s v0 v1 v2 v3 = some r → (PyI h0) r (ai_call G (d + 8) 279 [.ref v0, .int v1, .int v2, .int v3] (yH s h0)) := by
  refine tq_meth (P := (PyI h0)) (d := (d + 7)) (Nat.le_of_ble_eq_true rfl) ?_
  show Tj G (d + 7) 279 (PyI h0) (fy_B_felt G s v0 v1 v2 v3) 0 [some (.ref v0), some (.int v1), some (.int v2), some (.int v3)] [] (yH s h0)
  unfold fy_B_felt
  refine tq_iload_n dX0_felt_0 rfl ?_
  refine tq_iconst (v := 0) dX0_felt_1 (by decide) ?_
  refine tq_bipush (v := 99) dX0_felt_2 (by decide) ?_
  refine ty_s3_pi dX0_felt_4 rfl rfl rfl (Nat.le_of_ble_eq_true rfl) (wfy_B_isIn (d := d + 6) _ _ _) (fun p4 => ?_)
  refine tq_if_eq dX0_felt_7 rfl ?_ ?_
  · refine tq_iconst (v := (-1)) dX0_felt_21 (by decide) ?_
    exact tq_ireturn dX0_felt_22 rfl rfl
  · refine tq_aload_n dX0_felt_10 rfl ?_
    refine tq_iload_n dX0_felt_11 rfl ?_
    refine tq_iload_n dX0_felt_12 rfl ?_
    refine tq_iconst (v := 1) dX0_felt_13 (by decide) ?_
    refine tq_iload_n dX0_felt_14 rfl ?_
    refine ty_v4_I dX0_felt_15 rfl rfl rfl (Nat.le_of_ble_eq_true rfl) (wfy_B_see hO (d := d) _ _ _ _ _ _) (fun p15 => ?_)
    refine tq_goto dX0_felt_18 rfl ?_
    exact tq_ireturn dX0_felt_22 rfl rfl
theorem wfy_B_untell {G : ai_G} {d : Nat} {h0 : ai_H} (hO : hOld G h0) (s : yS) (v0 : Nat) (v1 : Int32) : ∀ r, fy_B_untell G s v0 v1 = some r → (PyI h0) r (ai_call G (d + 4) 281 [.ref v0, .int v1] (yH s h0)) := by
  refine tq_meth (P := (PyI h0)) (d := (d + 3)) (Nat.le_of_ble_eq_true rfl) ?_
  show Tj G (d + 3) 281 (PyI h0) (fy_B_untell G s v0 v1) 0 [some (.ref v0), some (.int v1)] [] (yH s h0)
  unfold fy_B_untell
  refine tq_iload_n dX0_untell_0 rfl ?_
  refine tq_iconst (v := 0) dX0_untell_1 (by decide) ?_
  refine tq_aload_n dX0_untell_2 rfl ?_
  refine ty_gR dX0_untell_3 rfl rfl (fun x3 => ?_)
  refine ty_v0_i dX0_untell_6 rfl rfl rfl (Nat.le_of_ble_eq_true rfl) (wfy_List_size hO (d := d + 2) _ _) (fun p6 => ?_)
  refine tq_iconst (v := 1) dX0_untell_9 (by decide) ?_
  refine tq_isub dX0_untell_10 ?_
  refine ty_s3_pi dX0_untell_11 rfl rfl rfl (Nat.le_of_ble_eq_true rfl) (wfy_B_isIn (d := d + 2) _ _ _) (fun p11 => ?_)
  refine tq_if_eq dX0_untell_14 rfl ?_ ?_
  · refine tq_iconst (v := 0) dX0_untell_34 (by decide) ?_
    exact tq_ireturn dX0_untell_35 (by decide) rfl
  · refine tq_aload_n dX0_untell_17 rfl ?_
    refine ty_gR dX0_untell_18 rfl rfl (fun x18 => ?_)
    refine tq_iload_n dX0_untell_21 rfl ?_
    refine ty_v1_r dX0_untell_22 rfl rfl rfl (Nat.le_of_ble_eq_true rfl) (wfy_List_get hO (d := d) _ _ _) (fun p22 => ?_)
    refine ty_cast dX0_untell_25 rfl (fun _ => ?_)
    refine ty_gI dX0_untell_28 rfl rfl (fun x28 => ?_)
    refine tq_if_lt dX0_untell_31 rfl ?_ ?_
    · refine tq_aload_n dX0_untell_36 rfl ?_
      refine ty_gR dX0_untell_37 rfl rfl (fun x37 => ?_)
      refine tq_iload_n dX0_untell_40 rfl ?_
      refine ty_v1_r dX0_untell_41 rfl rfl rfl (Nat.le_of_ble_eq_true rfl) (wfy_List_get hO (d := d) _ _ _) (fun p41 => ?_)
      refine ty_cast dX0_untell_44 rfl (fun _ => ?_)
      refine tq_aload_n dX0_untell_47 rfl ?_
      refine ty_gI dX0_untell_48 rfl rfl (fun x48 => ?_)
      refine ty_wI dX0_untell_51 rfl rfl rfl (fun s51 => ?_)
      refine tq_iconst (v := 1) dX0_untell_54 (by decide) ?_
      exact tq_ireturn dX0_untell_55 (by decide) rfl
    · refine tq_iconst (v := 0) dX0_untell_34 (by decide) ?_
      exact tq_ireturn dX0_untell_35 (by decide) rfl
theorem wfy_B_later {G : ai_G} {d : Nat} {h0 : ai_H} (hO : hOld G h0) (s : yS) (v0 : Nat) (v1 : Int32) : ∀ r, fy_B_later G s v0 v1 = some r → (PyI h0) r (ai_call G (d + 1) 283 [.ref v0, .int v1] (yH s h0)) := by
  refine tq_meth (P := (PyI h0)) (d := d) (Nat.le_of_ble_eq_true rfl) ?_
  show Tj G d 283 (PyI h0) (fy_B_later G s v0 v1) 0 [some (.ref v0), some (.int v1)] [] (yH s h0)
  unfold fy_B_later
  refine tq_iload_n dX0_later_0 rfl ?_
  refine tq_if_lt dX0_later_1 rfl ?_ ?_
  · refine tq_iconst (v := (-1)) dX0_later_23 (by decide) ?_
    exact tq_ireturn dX0_later_24 rfl rfl
  · refine tq_iload_n dX0_later_4 rfl ?_
    refine tq_sipush (v := 1000) dX0_later_5 (by decide) ?_
    refine tq_icmp_gt dX0_later_8 rfl ?_ ?_
    · refine tq_iconst (v := (-1)) dX0_later_23 (by decide) ?_
      exact tq_ireturn dX0_later_24 rfl rfl
    · refine tq_aload_n dX0_later_11 rfl ?_
      refine ty_gI dX0_later_12 rfl rfl (fun x12 => ?_)
      refine tq_iload_n dX0_later_15 rfl ?_
      refine tq_iadd dX0_later_16 ?_
      refine tq_ldc_w (v := .int 100000) dX0_later_17 rfl rfl ?_
      refine tq_icmp_le dX0_later_20 rfl ?_ ?_
      · refine tq_aload_n dX0_later_25 rfl ?_
        refine tq_dup dX0_later_26 rfl ?_
        refine ty_gI dX0_later_27 rfl rfl (fun x27 => ?_)
        refine tq_iload_n dX0_later_30 rfl ?_
        refine tq_iadd dX0_later_31 ?_
        refine ty_wI dX0_later_32 rfl rfl rfl (fun s32 => ?_)
        refine tq_aload_n dX0_later_35 rfl ?_
        refine ty_gI dX0_later_36 rfl rfl (fun x36 => ?_)
        exact tq_ireturn dX0_later_39 rfl rfl
      · refine tq_iconst (v := (-1)) dX0_later_23 (by decide) ?_
        exact tq_ireturn dX0_later_24 rfl rfl
theorem wfy_Sight_counts {G : ai_G} {d : Nat} {h0 : ai_H} (hO : hOld G h0) (s : yS) (v0 : Nat) (v1 : Int32) : ∀ r, fy_Sight_counts G s v0 v1 = some r → (Pi (yH s h0)) r (ai_call G (d + 1) 285 [.ref v0, .int v1] (yH s h0)) := by
  refine tq_meth (P := (Pi (yH s h0))) (d := d) (Nat.le_of_ble_eq_true rfl) ?_
  show Tj G d 285 (Pi (yH s h0)) (fy_Sight_counts G s v0 v1) 0 [some (.ref v0), some (.int v1)] [] (yH s h0)
  unfold fy_Sight_counts
  refine tq_aload_n dX18_counts_0 rfl ?_
  refine ty_gI dX18_counts_1 rfl rfl (fun x1 => ?_)
  refine tq_iload_n dX18_counts_4 rfl ?_
  refine tq_icmp_gt dX18_counts_5 rfl ?_ ?_
  · refine tq_iconst (v := 0) dX18_counts_27 (by decide) ?_
    exact tq_ireturn dX18_counts_28 (by decide) rfl
  · refine tq_aload_n dX18_counts_8 rfl ?_
    refine ty_gI dX18_counts_9 rfl rfl (fun x9 => ?_)
    refine tq_if_lt dX18_counts_12 rfl ?_ ?_
    · refine tq_iconst (v := 1) dX18_counts_23 (by decide) ?_
      refine tq_goto dX18_counts_24 rfl ?_
      exact tq_ireturn dX18_counts_28 (by decide) rfl
    · refine tq_aload_n dX18_counts_15 rfl ?_
      refine ty_gI dX18_counts_16 rfl rfl (fun x16 => ?_)
      refine tq_iload_n dX18_counts_19 rfl ?_
      refine tq_icmp_le dX18_counts_20 rfl ?_ ?_
      · refine tq_iconst (v := 0) dX18_counts_27 (by decide) ?_
        exact tq_ireturn dX18_counts_28 (by decide) rfl
      · refine tq_iconst (v := 1) dX18_counts_23 (by decide) ?_
        refine tq_goto dX18_counts_24 rfl ?_
        exact tq_ireturn dX18_counts_28 (by decide) rfl
abbrev Pfy_B_doesFit_b8 (G : ai_G) (d : Nat) (h0 : ai_H) (v0 : Nat) (v1 : Int32) (v2 : Int32) (v3 : Nat) : yS ⊕ (yS ⊕ (Int32 × yS)) → Option ai_R → Prop := Sum.elim (fun (q : yS) run => ∃ J : JV × JV, run = ai_run G (d + 2) 286 8 [some (.ref v0), some (.int v1), some (.int v2), some (.ref v3), J.1.1, J.2.1] [] (yH q h0)) (Sum.elim (fun (q : yS) run => ∃ J : JV × JV × JV × JV × JV × JV, run = ai_run G (d + 2) 286 111 [J.1.1, J.2.1.1, J.2.2.1.1, J.2.2.2.1.1, J.2.2.2.2.1.1, J.2.2.2.2.2.1] [] (yH q h0)) (PyI h0))
theorem Bfy_B_doesFit_b8 {G : ai_G} {d : Nat} {h0 : ai_H} (hO : hOld G h0) (v0 : Nat) (v1 : Int32) (v2 : Int32) (v3 : Nat) (b0 : yS) (J : JV × JV) : Tj G (d + 2) 286 (Pfy_B_doesFit_b8 G d h0 v0 v1 v2 v3) (some (.inl b0)) 8 [some (.ref v0), some (.int v1), some (.int v2), some (.ref v3), J.1.1, J.2.1] [] (yH b0 h0) := tq_back J rfl rfl
theorem Efy_B_doesFit_b8 {G : ai_G} {d : Nat} {h0 : ai_H} (hO : hOld G h0) (v0 : Nat) (v1 : Int32) (v2 : Int32) (v3 : Nat) (b0 : yS) (J : JV × JV × JV × JV × JV × JV) : Tj G (d + 2) 286 (Pfy_B_doesFit_b8 G d h0 v0 v1 v2 v3) (some (.inr (.inl b0))) 111 [J.1.1, J.2.1.1, J.2.2.1.1, J.2.2.2.1.1, J.2.2.2.2.1.1, J.2.2.2.2.2.1] [] (yH b0 h0) := tq_exit2 J rfl rfl
theorem wfy_B_doesFit_j81 {G : ai_G} {d : Nat} {h0 : ai_H} (hO : hOld G h0) (j5 : JV)   (s : yS) (v0 : Nat) (v1 : Int32) (v2 : Int32) (v3 : Nat) (v4 : Nat) (t0 : Int32): Tj G (d + 2) 286 (Pfy_B_doesFit_b8 G d h0 v0 v1 v2 v3) (fy_B_doesFit_j81 G s v0 v1 v2 v3 v4 t0) 81 [some (.ref v0), some (.int v1), some (.int v2), some (.ref v3), some (.ref v4), j5.1] [.int t0] (yH s h0) := by
  unfold fy_B_doesFit_j81
  refine tq_istore (L' := [_, _, _, _, _, _]) dX0_doesFit_81 (Nat.le_of_ble_eq_true rfl) rfl ?_
  refine tq_iload dX0_doesFit_83 rfl ?_
  refine tq_aload dX0_doesFit_85 rfl ?_
  refine ty_gI dX0_doesFit_87 rfl rfl (fun x87 => ?_)
  refine tq_icmp_lt dX0_doesFit_90 rfl ?_ ?_
  · refine tq_iconst (v := 0) dX0_doesFit_97 (by decide) ?_
    refine tq_aload dX0_doesFit_98 rfl ?_
    refine ty_gI dX0_doesFit_100 rfl rfl (fun x100 => ?_)
    refine tq_icmp_eq dX0_doesFit_103 rfl ?_ ?_
    · refine tq_goto dX0_doesFit_108 rfl ?_
      exact Bfy_B_doesFit_b8 hO _ _ _ _ _ (⟨some (.ref v4), rfl⟩, ⟨some (.int t0), rfl⟩)
    · refine tq_iconst (v := 0) dX0_doesFit_106 (by decide) ?_
      exact tq_ireturn dX0_doesFit_107 (by decide) rfl
  · refine tq_iconst (v := 1) dX0_doesFit_93 (by decide) ?_
    refine tq_goto dX0_doesFit_94 rfl ?_
    refine tq_aload dX0_doesFit_98 rfl ?_
    refine ty_gI dX0_doesFit_100 rfl rfl (fun x100 => ?_)
    refine tq_icmp_eq dX0_doesFit_103 rfl ?_ ?_
    · refine tq_goto dX0_doesFit_108 rfl ?_
      exact Bfy_B_doesFit_b8 hO _ _ _ _ _ (⟨some (.ref v4), rfl⟩, ⟨some (.int t0), rfl⟩)
    · refine tq_iconst (v := 0) dX0_doesFit_106 (by decide) ?_
      exact tq_ireturn dX0_doesFit_107 (by decide) rfl
theorem wfy_B_doesFit_b8 {G : ai_G} {d : Nat} {h0 : ai_H} (hO : hOld G h0) (v0 : Nat) (v1 : Int32) (v2 : Int32) (v3 : Nat) (q : yS) (J : JV × JV) : Tj G (d + 2) 286 (Pfy_B_doesFit_b8 G d h0 v0 v1 v2 v3) (fy_B_doesFit_b8 G v0 v1 v2 v3 q) 8 [some (.ref v0), some (.int v1), some (.int v2), some (.ref v3), J.1.1, J.2.1] [] (yH q h0) := by
  unfold fy_B_doesFit_b8
  refine tq_aload_n dX0_doesFit_8 rfl ?_
  refine ty_f0_i dX0_doesFit_9 rfl rfl (Nat.le_of_ble_eq_true rfl) (wfy_Itr_hasNext hO (d := d + 1) _ _) (fun p9 => ?_)
  refine tq_if_eq dX0_doesFit_14 rfl ?_ ?_
  · exact Efy_B_doesFit_b8 hO _ _ _ _ _ (⟨some (.ref v0), rfl⟩, ⟨some (.int v1), rfl⟩, ⟨some (.int v2), rfl⟩, ⟨some (.ref v3), rfl⟩, J.1, J.2)
  · refine tq_aload_n dX0_doesFit_17 rfl ?_
    refine ty_f0_R dX0_doesFit_18 rfl rfl (Nat.le_of_ble_eq_true rfl) (wfy_Itr_next hO (d := d) _ _) (fun p18 => ?_)
    refine ty_cast dX0_doesFit_23 rfl (fun _ => ?_)
    refine tq_astore (L' := [_, _, _, _, _, _]) dX0_doesFit_26 (Nat.le_of_ble_eq_true rfl) rfl ?_
    refine tq_aload dX0_doesFit_28 rfl ?_
    refine tq_iload_n dX0_doesFit_30 rfl ?_
    refine ty_v1_i dX0_doesFit_31 rfl rfl rfl (Nat.le_of_ble_eq_true rfl) (wfy_Sight_counts hO (d := d + 1) _ _ _) (fun p31 => ?_)
    refine tq_if_ne dX0_doesFit_34 rfl ?_ ?_
    · refine tq_aload dX0_doesFit_40 rfl ?_
      refine ty_gI dX0_doesFit_42 rfl rfl (fun x42 => ?_)
      refine tq_if_eq dX0_doesFit_45 rfl ?_ ?_
      · refine tq_aload_n dX0_doesFit_66 rfl ?_
        refine ty_gR dX0_doesFit_67 rfl rfl (fun x67 => ?_)
        refine tq_bipush (v := 6) dX0_doesFit_70 (by decide) ?_
        refine tq_iload_n dX0_doesFit_72 rfl ?_
        refine tq_imul dX0_doesFit_73 ?_
        refine tq_aload dX0_doesFit_74 rfl ?_
        refine ty_gI dX0_doesFit_76 rfl rfl (fun x76 => ?_)
        refine tq_iadd dX0_doesFit_79 ?_
        refine ty_iald dX0_doesFit_80 (fun x80 => ?_)
        exact wfy_B_doesFit_j81 hO J.2 _ _ _ _ _ _ _
      · refine tq_aload_n dX0_doesFit_48 rfl ?_
        refine ty_gR dX0_doesFit_49 rfl rfl (fun x49 => ?_)
        refine tq_bipush (v := 6) dX0_doesFit_52 (by decide) ?_
        refine tq_iload_n dX0_doesFit_54 rfl ?_
        refine tq_imul dX0_doesFit_55 ?_
        refine tq_aload dX0_doesFit_56 rfl ?_
        refine ty_gI dX0_doesFit_58 rfl rfl (fun x58 => ?_)
        refine tq_iadd dX0_doesFit_61 ?_
        refine ty_iald dX0_doesFit_62 (fun x62 => ?_)
        refine tq_goto dX0_doesFit_63 rfl ?_
        exact wfy_B_doesFit_j81 hO J.2 _ _ _ _ _ _ _
    · refine tq_goto dX0_doesFit_37 rfl ?_
      exact Bfy_B_doesFit_b8 hO _ _ _ _ _ (⟨some (.ref p18.1), rfl⟩, J.2)
theorem Sfy_B_doesFit_b8 {G : ai_G} {d : Nat} {h0 : ai_H} (hO : hOld G h0) {α : Type} {P : α → Option ai_R → Prop} (v0 : Nat) (v1 : Int32) (v2 : Int32) (v3 : Nat) (b0 : yS) (J : JV × JV) {r : yS → Option α} {r2 : (Int32 × yS) → Option α} (k2 : ∀ v run, (PyI h0) v run → ∀ a, r2 v = some a → P a run) (kk : ∀ (q : yS) (J : JV × JV × JV × JV × JV × JV), Tj G (d + 2) 286 P (r q) 111 [J.1.1, J.2.1.1, J.2.2.1.1, J.2.2.2.1.1, J.2.2.2.2.1.1, J.2.2.2.2.2.1] [] (yH q h0)) : Tj G (d + 2) 286 P ((lp (fy_B_doesFit_b8 G v0 v1 v2 v3) b0).bind (Sum.elim r r2)) 8 [some (.ref v0), some (.int v1), some (.int v2), some (.ref v3), J.1.1, J.2.1] [] (yH b0 h0) := tq_lp2 (J := J) (fun q J => wfy_B_doesFit_b8 hO v0 v1 v2 v3 q J) rfl rfl k2 kk
theorem wfy_B_doesFit {G : ai_G} {d : Nat} {h0 : ai_H} (hO : hOld G h0) (s : yS) (v0 : Nat) (v1 : Int32) (v2 : Int32) : ∀ r, fy_B_doesFit G s v0 v1 v2 = some r → (PyI h0) r (ai_call G (d + 3) 286 [.ref v0, .int v1, .int v2] (yH s h0)) := by
  refine tq_meth (P := (PyI h0)) (d := (d + 2)) (Nat.le_of_ble_eq_true rfl) ?_
  show Tj G (d + 2) 286 (PyI h0) (fy_B_doesFit G s v0 v1 v2) 0 [some (.ref v0), some (.int v1), some (.int v2), none, none, none] [] (yH s h0)
  unfold fy_B_doesFit
  refine tq_aload_n dX0_doesFit_0 rfl ?_
  refine ty_gR dX0_doesFit_1 rfl rfl (fun x1 => ?_)
  refine ty_v0_R dX0_doesFit_4 rfl rfl rfl (Nat.le_of_ble_eq_true rfl) (wfy_List_iterator hO (d := d) _ _) (fun p4 => ?_)
  refine tq_astore_n (L' := [_, _, _, _, _, _]) dX0_doesFit_7 (Nat.le_of_ble_eq_true rfl) rfl ?_
  refine Sfy_B_doesFit_b8 hO _ _ _ _ _ (⟨none, rfl⟩, ⟨none, rfl⟩) (fun v run hv a ha => by cases ha; exact hv) (fun q8 J8 => ?_)
  refine tq_iconst (v := 1) dX0_doesFit_111 (by decide) ?_
  exact tq_ireturn dX0_doesFit_112 (by decide) rfl
abbrev Pfy_B_layFits_b7 (G : ai_G) (d : Nat) (h0 : ai_H) (v0 : Nat) (v1 : Int32) : (Int32 × yS) ⊕ yS → Option ai_R → Prop := Sum.elim (fun (q : Int32 × yS) run => ∃ J : JV × JV × JV, run = ai_run G (d + 130) 287 7 [some (.ref v0), some (.int v1), some (.int q.1), J.1.1, J.2.1.1, J.2.2.1] [] (yH q.2 h0)) (fun (q : yS) run => ∃ J : JV × JV × JV × JV, run = ai_run G (d + 130) 287 29 [some (.ref v0), some (.int v1), J.1.1, J.2.1.1, J.2.2.1.1, J.2.2.2.1] [] (yH q h0))
theorem Bfy_B_layFits_b7 {G : ai_G} {d : Nat} {h0 : ai_H} (hO : hOld G h0) (v0 : Nat) (v1 : Int32) (b0 : Int32) (b1 : yS) (J : JV × JV × JV) : Tj G (d + 130) 287 (Pfy_B_layFits_b7 G d h0 v0 v1) (some (.inl (b0, b1))) 7 [some (.ref v0), some (.int v1), some (.int b0), J.1.1, J.2.1.1, J.2.2.1] [] (yH b1 h0) := tq_back J rfl rfl
theorem Efy_B_layFits_b7 {G : ai_G} {d : Nat} {h0 : ai_H} (hO : hOld G h0) (v0 : Nat) (v1 : Int32) (b0 : yS) (J : JV × JV × JV × JV) : Tj G (d + 130) 287 (Pfy_B_layFits_b7 G d h0 v0 v1) (some (.inr b0)) 29 [some (.ref v0), some (.int v1), J.1.1, J.2.1.1, J.2.2.1.1, J.2.2.2.1] [] (yH b0 h0) := tq_exit J rfl rfl
theorem wfy_B_layFits_b7 {G : ai_G} {d : Nat} {h0 : ai_H} (hO : hOld G h0) (v0 : Nat) (v1 : Int32) (q : Int32 × yS) (J : JV × JV × JV) : Tj G (d + 130) 287 (Pfy_B_layFits_b7 G d h0 v0 v1) (fy_B_layFits_b7 G v0 v1 q) 7 [some (.ref v0), some (.int v1), some (.int q.1), J.1.1, J.2.1.1, J.2.2.1] [] (yH q.2 h0) := by
  unfold fy_B_layFits_b7
  refine tq_iload_n dX0_layFits_7 rfl ?_
  refine tq_aload_n dX0_layFits_8 rfl ?_
  refine ty_gR dX0_layFits_9 rfl rfl (fun x9 => ?_)
  refine ty_alen hO dX0_layFits_12 (fun x12 => ?_)
  refine tq_icmp_ge dX0_layFits_13 rfl ?_ ?_
  · exact Efy_B_layFits_b7 hO _ _ _ (⟨some (.int q.1), rfl⟩, J.1, J.2.1, J.2.2)
  · refine tq_aload_n dX0_layFits_16 rfl ?_
    refine ty_gR dX0_layFits_17 rfl rfl (fun x17 => ?_)
    refine tq_iload_n dX0_layFits_20 rfl ?_
    refine tq_iconst (v := 0) dX0_layFits_21 (by decide) ?_
    refine ty_iast dX0_layFits_22 (fun s22 => ?_)
    refine tq_iinc (v := (q.1 + 1)) (L' := [_, _, _, _, _, _]) dX0_layFits_23 rfl (Nat.le_of_ble_eq_true rfl) rfl rfl ?_
    refine tq_goto dX0_layFits_26 rfl ?_
    exact Bfy_B_layFits_b7 hO _ _ _ _ (J.1, J.2.1, J.2.2)
theorem Sfy_B_layFits_b7 {G : ai_G} {d : Nat} {h0 : ai_H} (hO : hOld G h0) {α : Type} {P : α → Option ai_R → Prop} (v0 : Nat) (v1 : Int32) (b0 : Int32) (b1 : yS) (J : JV × JV × JV) {r : yS → Option α} (kk : ∀ (q : yS) (J : JV × JV × JV × JV), Tj G (d + 130) 287 P (r q) 29 [some (.ref v0), some (.int v1), J.1.1, J.2.1.1, J.2.2.1.1, J.2.2.2.1] [] (yH q h0)) : Tj G (d + 130) 287 P ((lp (fy_B_layFits_b7 G v0 v1) (b0, b1)).bind r) 7 [some (.ref v0), some (.int v1), some (.int b0), J.1.1, J.2.1.1, J.2.2.1] [] (yH b1 h0) := tq_lp1 (J := J) (fun q J => wfy_B_layFits_b7 hO v0 v1 q J) rfl rfl kk
abbrev Pfy_B_layFits_b39 (G : ai_G) (d : Nat) (h0 : ai_H) (v0 : Nat) (v1 : Int32) (v2 : Int32) : (Int32 × yS) ⊕ yS → Option ai_R → Prop := Sum.elim (fun (q : Int32 × yS) run => ∃ J : JV × JV, run = ai_run G (d + 130) 287 39 [some (.ref v0), some (.int v1), some (.int v2), some (.int q.1), J.1.1, J.2.1] [] (yH q.2 h0)) (fun (q : yS) run => ∃ J : JV × JV × JV × JV × JV × JV, run = ai_run G (d + 130) 287 212 [J.1.1, J.2.1.1, J.2.2.1.1, J.2.2.2.1.1, J.2.2.2.2.1.1, J.2.2.2.2.2.1] [] (yH q h0))
theorem Bfy_B_layFits_b39 {G : ai_G} {d : Nat} {h0 : ai_H} (hO : hOld G h0) (v0 : Nat) (v1 : Int32) (v2 : Int32) (b0 : Int32) (b1 : yS) (J : JV × JV) : Tj G (d + 130) 287 (Pfy_B_layFits_b39 G d h0 v0 v1 v2) (some (.inl (b0, b1))) 39 [some (.ref v0), some (.int v1), some (.int v2), some (.int b0), J.1.1, J.2.1] [] (yH b1 h0) := tq_back J rfl rfl
theorem Efy_B_layFits_b39 {G : ai_G} {d : Nat} {h0 : ai_H} (hO : hOld G h0) (v0 : Nat) (v1 : Int32) (v2 : Int32) (b0 : yS) (J : JV × JV × JV × JV × JV × JV) : Tj G (d + 130) 287 (Pfy_B_layFits_b39 G d h0 v0 v1 v2) (some (.inr b0)) 212 [J.1.1, J.2.1.1, J.2.2.1.1, J.2.2.2.1.1, J.2.2.2.2.1.1, J.2.2.2.2.2.1] [] (yH b0 h0) := tq_exit J rfl rfl
abbrev Pfy_B_layFits_b69 (G : ai_G) (d : Nat) (h0 : ai_H) (v0 : Nat) (v1 : Int32) (v2 : Int32) (v3 : Int32) : (Int32 × yS) ⊕ yS → Option ai_R → Prop := Sum.elim (fun (q : Int32 × yS) run => ∃ J : JV, run = ai_run G (d + 130) 287 69 [some (.ref v0), some (.int v1), some (.int v2), some (.int v3), some (.int q.1), J.1] [] (yH q.2 h0)) (fun (q : yS) run => ∃ J : JV × JV, run = ai_run G (d + 130) 287 146 [some (.ref v0), some (.int v1), some (.int v2), some (.int v3), J.1.1, J.2.1] [] (yH q h0))
theorem Bfy_B_layFits_b69 {G : ai_G} {d : Nat} {h0 : ai_H} (hO : hOld G h0) (v0 : Nat) (v1 : Int32) (v2 : Int32) (v3 : Int32) (b0 : Int32) (b1 : yS) (J : JV) : Tj G (d + 130) 287 (Pfy_B_layFits_b69 G d h0 v0 v1 v2 v3) (some (.inl (b0, b1))) 69 [some (.ref v0), some (.int v1), some (.int v2), some (.int v3), some (.int b0), J.1] [] (yH b1 h0) := tq_back J rfl rfl
theorem Efy_B_layFits_b69 {G : ai_G} {d : Nat} {h0 : ai_H} (hO : hOld G h0) (v0 : Nat) (v1 : Int32) (v2 : Int32) (v3 : Int32) (b0 : yS) (J : JV × JV) : Tj G (d + 130) 287 (Pfy_B_layFits_b69 G d h0 v0 v1 v2 v3) (some (.inr b0)) 146 [some (.ref v0), some (.int v1), some (.int v2), some (.int v3), J.1.1, J.2.1] [] (yH b0 h0) := tq_exit J rfl rfl
theorem wfy_B_layFits_b69 {G : ai_G} {d : Nat} {h0 : ai_H} (hO : hOld G h0) (v0 : Nat) (v1 : Int32) (v2 : Int32) (v3 : Int32) (q : Int32 × yS) (J : JV) : Tj G (d + 130) 287 (Pfy_B_layFits_b69 G d h0 v0 v1 v2 v3) (fy_B_layFits_b69 G v0 v1 v2 v3 q) 69 [some (.ref v0), some (.int v1), some (.int v2), some (.int v3), some (.int q.1), J.1] [] (yH q.2 h0) := by
  unfold fy_B_layFits_b69
  refine tq_iload dX0_layFits_69 rfl ?_
  refine tq_iload_n dX0_layFits_71 rfl ?_
  refine tq_icmp_ge dX0_layFits_72 rfl ?_ ?_
  · exact Efy_B_layFits_b69 hO _ _ _ _ _ (⟨some (.int q.1), rfl⟩, J)
  · refine tq_aload_n dX0_layFits_75 rfl ?_
    refine ty_gR dX0_layFits_76 rfl rfl (fun x76 => ?_)
    refine tq_aload_n dX0_layFits_79 rfl ?_
    refine ty_gR dX0_layFits_80 rfl rfl (fun x80 => ?_)
    refine tq_iconst (v := 0) dX0_layFits_83 (by decide) ?_
    refine tq_iload_n dX0_layFits_84 rfl ?_
    refine tq_iload_n dX0_layFits_85 rfl ?_
    refine tq_iload dX0_layFits_86 rfl ?_
    refine ty_s3_pi dX0_layFits_88 rfl rfl rfl (Nat.le_of_ble_eq_true rfl) (wfy_B_steerOf (d := d + 128) _ _ _) (fun p88 => ?_)
    refine tq_iconst (v := 1) dX0_layFits_91 (by decide) ?_
    refine tq_iconst (v := 0) dX0_layFits_92 (by decide) ?_
    refine ty_v5_I dX0_layFits_93 rfl rfl rfl (Nat.le_of_ble_eq_true rfl) (wfy_State_stroke hO (d := d) _ _ _ _ _ _ _) (fun p93 => ?_)
    refine tq_istore (L' := [_, _, _, _, _, _]) dX0_layFits_96 (Nat.le_of_ble_eq_true rfl) rfl ?_
    refine tq_aload_n dX0_layFits_98 rfl ?_
    refine ty_gR dX0_layFits_99 rfl rfl (fun x99 => ?_)
    refine tq_bipush (v := 6) dX0_layFits_102 (by decide) ?_
    refine tq_iload_n dX0_layFits_104 rfl ?_
    refine tq_imul dX0_layFits_105 ?_
    refine tq_iload dX0_layFits_106 rfl ?_
    refine tq_iadd dX0_layFits_108 ?_
    refine tq_aload_n dX0_layFits_109 rfl ?_
    refine ty_gR dX0_layFits_110 rfl rfl (fun x110 => ?_)
    refine ty_gR dX0_layFits_113 rfl rfl (fun x113 => ?_)
    refine tq_iconst (v := 0) dX0_layFits_116 (by decide) ?_
    refine ty_iald dX0_layFits_117 (fun x117 => ?_)
    refine ty_iast dX0_layFits_118 (fun s118 => ?_)
    refine tq_aload_n dX0_layFits_119 rfl ?_
    refine ty_gR dX0_layFits_120 rfl rfl (fun x120 => ?_)
    refine tq_bipush (v := 6) dX0_layFits_123 (by decide) ?_
    refine tq_iload_n dX0_layFits_125 rfl ?_
    refine tq_imul dX0_layFits_126 ?_
    refine tq_iload dX0_layFits_127 rfl ?_
    refine tq_iadd dX0_layFits_129 ?_
    refine tq_aload_n dX0_layFits_130 rfl ?_
    refine ty_gR dX0_layFits_131 rfl rfl (fun x131 => ?_)
    refine ty_gR dX0_layFits_134 rfl rfl (fun x134 => ?_)
    refine tq_iconst (v := 0) dX0_layFits_137 (by decide) ?_
    refine ty_iald dX0_layFits_138 (fun x138 => ?_)
    refine ty_iast dX0_layFits_139 (fun s139 => ?_)
    refine tq_iinc (v := (q.1 + 1)) (L' := [_, _, _, _, _, _]) dX0_layFits_140 rfl (Nat.le_of_ble_eq_true rfl) rfl rfl ?_
    refine tq_goto dX0_layFits_143 rfl ?_
    exact Bfy_B_layFits_b69 hO _ _ _ _ _ _ ⟨some (.int p93.1), rfl⟩
theorem Sfy_B_layFits_b69 {G : ai_G} {d : Nat} {h0 : ai_H} (hO : hOld G h0) {α : Type} {P : α → Option ai_R → Prop} (v0 : Nat) (v1 : Int32) (v2 : Int32) (v3 : Int32) (b0 : Int32) (b1 : yS) (J : JV) {r : yS → Option α} (kk : ∀ (q : yS) (J : JV × JV), Tj G (d + 130) 287 P (r q) 146 [some (.ref v0), some (.int v1), some (.int v2), some (.int v3), J.1.1, J.2.1] [] (yH q h0)) : Tj G (d + 130) 287 P ((lp (fy_B_layFits_b69 G v0 v1 v2 v3) (b0, b1)).bind r) 69 [some (.ref v0), some (.int v1), some (.int v2), some (.int v3), some (.int b0), J.1] [] (yH b1 h0) := tq_lp1 (J := J) (fun q J => wfy_B_layFits_b69 hO v0 v1 v2 v3 q J) rfl rfl kk
abbrev Pfy_B_layFits_b171 (G : ai_G) (d : Nat) (h0 : ai_H) (v0 : Nat) (v1 : Int32) (v2 : Int32) (v3 : Int32) : (Int32 × yS) ⊕ yS → Option ai_R → Prop := Sum.elim (fun (q : Int32 × yS) run => ∃ J : JV, run = ai_run G (d + 130) 287 171 [some (.ref v0), some (.int v1), some (.int v2), some (.int v3), some (.int q.1), J.1] [] (yH q.2 h0)) (fun (q : yS) run => ∃ J : JV × JV, run = ai_run G (d + 130) 287 206 [some (.ref v0), some (.int v1), some (.int v2), some (.int v3), J.1.1, J.2.1] [] (yH q h0))
theorem Bfy_B_layFits_b171 {G : ai_G} {d : Nat} {h0 : ai_H} (hO : hOld G h0) (v0 : Nat) (v1 : Int32) (v2 : Int32) (v3 : Int32) (b0 : Int32) (b1 : yS) (J : JV) : Tj G (d + 130) 287 (Pfy_B_layFits_b171 G d h0 v0 v1 v2 v3) (some (.inl (b0, b1))) 171 [some (.ref v0), some (.int v1), some (.int v2), some (.int v3), some (.int b0), J.1] [] (yH b1 h0) := tq_back J rfl rfl
theorem Efy_B_layFits_b171 {G : ai_G} {d : Nat} {h0 : ai_H} (hO : hOld G h0) (v0 : Nat) (v1 : Int32) (v2 : Int32) (v3 : Int32) (b0 : yS) (J : JV × JV) : Tj G (d + 130) 287 (Pfy_B_layFits_b171 G d h0 v0 v1 v2 v3) (some (.inr b0)) 206 [some (.ref v0), some (.int v1), some (.int v2), some (.int v3), J.1.1, J.2.1] [] (yH b0 h0) := tq_exit J rfl rfl
theorem wfy_B_layFits_b171 {G : ai_G} {d : Nat} {h0 : ai_H} (hO : hOld G h0) (v0 : Nat) (v1 : Int32) (v2 : Int32) (v3 : Int32) (q : Int32 × yS) (J : JV) : Tj G (d + 130) 287 (Pfy_B_layFits_b171 G d h0 v0 v1 v2 v3) (fy_B_layFits_b171 G v0 v1 v2 v3 q) 171 [some (.ref v0), some (.int v1), some (.int v2), some (.int v3), some (.int q.1), J.1] [] (yH q.2 h0) := by
  unfold fy_B_layFits_b171
  refine tq_iload dX0_layFits_171 rfl ?_
  refine tq_iload_n dX0_layFits_173 rfl ?_
  refine tq_icmp_ge dX0_layFits_174 rfl ?_ ?_
  · exact Efy_B_layFits_b171 hO _ _ _ _ _ (⟨some (.int q.1), rfl⟩, J)
  · refine tq_aload_n dX0_layFits_177 rfl ?_
    refine ty_gR dX0_layFits_178 rfl rfl (fun x178 => ?_)
    refine tq_iconst (v := 3) dX0_layFits_181 (by decide) ?_
    refine tq_iload dX0_layFits_182 rfl ?_
    refine tq_imul dX0_layFits_184 ?_
    refine tq_iload_n dX0_layFits_185 rfl ?_
    refine tq_iload_n dX0_layFits_186 rfl ?_
    refine tq_iload dX0_layFits_187 rfl ?_
    refine ty_s3_pi dX0_layFits_189 rfl rfl rfl (Nat.le_of_ble_eq_true rfl) (wfy_B_steerOf (d := d + 128) _ _ _) (fun p189 => ?_)
    refine tq_iadd dX0_layFits_192 ?_
    refine tq_iconst (v := 1) dX0_layFits_193 (by decide) ?_
    refine tq_iadd dX0_layFits_194 ?_
    refine tq_dup2 dX0_layFits_195 rfl rfl ?_
    refine ty_iald dX0_layFits_196 (fun x196 => ?_)
    refine tq_iconst (v := 1) dX0_layFits_197 (by decide) ?_
    refine tq_iadd dX0_layFits_198 ?_
    refine ty_iast dX0_layFits_199 (fun s199 => ?_)
    refine tq_iinc (v := (q.1 + 1)) (L' := [_, _, _, _, _, _]) dX0_layFits_200 rfl (Nat.le_of_ble_eq_true rfl) rfl rfl ?_
    refine tq_goto dX0_layFits_203 rfl ?_
    exact Bfy_B_layFits_b171 hO _ _ _ _ _ _ J
theorem Sfy_B_layFits_b171 {G : ai_G} {d : Nat} {h0 : ai_H} (hO : hOld G h0) {α : Type} {P : α → Option ai_R → Prop} (v0 : Nat) (v1 : Int32) (v2 : Int32) (v3 : Int32) (b0 : Int32) (b1 : yS) (J : JV) {r : yS → Option α} (kk : ∀ (q : yS) (J : JV × JV), Tj G (d + 130) 287 P (r q) 206 [some (.ref v0), some (.int v1), some (.int v2), some (.int v3), J.1.1, J.2.1] [] (yH q h0)) : Tj G (d + 130) 287 P ((lp (fy_B_layFits_b171 G v0 v1 v2 v3) (b0, b1)).bind r) 171 [some (.ref v0), some (.int v1), some (.int v2), some (.int v3), some (.int b0), J.1] [] (yH b1 h0) := tq_lp1 (J := J) (fun q J => wfy_B_layFits_b171 hO v0 v1 v2 v3 q J) rfl rfl kk
theorem wfy_B_layFits_b39 {G : ai_G} {d : Nat} {h0 : ai_H} (hO : hOld G h0) (v0 : Nat) (v1 : Int32) (v2 : Int32) (q : Int32 × yS) (J : JV × JV) : Tj G (d + 130) 287 (Pfy_B_layFits_b39 G d h0 v0 v1 v2) (fy_B_layFits_b39 G v0 v1 v2 q) 39 [some (.ref v0), some (.int v1), some (.int v2), some (.int q.1), J.1.1, J.2.1] [] (yH q.2 h0) := by
  unfold fy_B_layFits_b39
  refine tq_aload_n dX0_layFits_39 rfl ?_
  refine ty_v0_i dX0_layFits_40 rfl rfl rfl (Nat.le_of_ble_eq_true rfl) (wfy_B_boards hO (d := d + 128) _ _) (fun p40 => ?_)
  refine tq_if_le dX0_layFits_43 rfl ?_ ?_
  · exact Efy_B_layFits_b39 hO _ _ _ _ (⟨some (.ref v0), rfl⟩, ⟨some (.int v1), rfl⟩, ⟨some (.int v2), rfl⟩, ⟨some (.int q.1), rfl⟩, J.1, J.2)
  · refine tq_iload_n dX0_layFits_46 rfl ?_
    refine tq_iconst (v := 3) dX0_layFits_47 (by decide) ?_
    refine tq_iload_n dX0_layFits_48 rfl ?_
    refine ty_s2_pi dX0_layFits_49 rfl rfl rfl (Nat.le_of_ble_eq_true rfl) (wfy_B_power (d := d + 129) _ _) (fun p49 => ?_)
    refine tq_icmp_ge dX0_layFits_52 rfl ?_ ?_
    · exact Efy_B_layFits_b39 hO _ _ _ _ (⟨some (.ref v0), rfl⟩, ⟨some (.int v1), rfl⟩, ⟨some (.int v2), rfl⟩, ⟨some (.int q.1), rfl⟩, J.1, J.2)
    · refine tq_aload_n dX0_layFits_55 rfl ?_
      refine ty_gR dX0_layFits_56 rfl rfl (fun x56 => ?_)
      refine tq_aload_n dX0_layFits_59 rfl ?_
      refine ty_gR dX0_layFits_60 rfl rfl (fun x60 => ?_)
      refine ty_v1_V dX0_layFits_63 rfl rfl rfl (Nat.le_of_ble_eq_true rfl) (wfy_State_begin hO (d := d + 126) _ _ _) (fun p63 => ?_)
      refine tq_iconst (v := 0) dX0_layFits_66 (by decide) ?_
      refine tq_istore (L' := [_, _, _, _, _, _]) dX0_layFits_67 (Nat.le_of_ble_eq_true rfl) rfl ?_
      refine Sfy_B_layFits_b69 hO _ _ _ _ _ _ J.2 (fun q69 J69 => ?_)
      refine tq_aload_n dX0_layFits_146 rfl ?_
      refine tq_iload_n dX0_layFits_147 rfl ?_
      refine tq_iload_n dX0_layFits_148 rfl ?_
      refine ty_v2_I dX0_layFits_149 rfl rfl rfl (Nat.le_of_ble_eq_true rfl) (wfy_B_doesFit hO (d := d + 127) _ _ _ _) (fun p149 => ?_)
      refine tq_if_ne dX0_layFits_152 rfl ?_ ?_
      · refine tq_aload_n dX0_layFits_158 rfl ?_
        refine tq_dup dX0_layFits_159 rfl ?_
        refine ty_gI dX0_layFits_160 rfl rfl (fun x160 => ?_)
        refine tq_iconst (v := 1) dX0_layFits_163 (by decide) ?_
        refine tq_iadd dX0_layFits_164 ?_
        refine ty_wI dX0_layFits_165 rfl rfl rfl (fun s165 => ?_)
        refine tq_iconst (v := 0) dX0_layFits_168 (by decide) ?_
        refine tq_istore (L' := [_, _, _, _, _, _]) dX0_layFits_169 (Nat.le_of_ble_eq_true rfl) rfl ?_
        refine Sfy_B_layFits_b171 hO _ _ _ _ _ _ J69.2 (fun q171 J171 => ?_)
        refine tq_iinc (v := (q.1 + 1)) (L' := [_, _, _, _, _, _]) dX0_layFits_206 rfl (Nat.le_of_ble_eq_true rfl) rfl rfl ?_
        refine tq_goto dX0_layFits_209 rfl ?_
        exact Bfy_B_layFits_b39 hO _ _ _ _ _ (J171.1, J171.2)
      · refine tq_goto dX0_layFits_155 rfl ?_
        refine tq_iinc (v := (q.1 + 1)) (L' := [_, _, _, _, _, _]) dX0_layFits_206 rfl (Nat.le_of_ble_eq_true rfl) rfl rfl ?_
        refine tq_goto dX0_layFits_209 rfl ?_
        exact Bfy_B_layFits_b39 hO _ _ _ _ _ (J69.1, J69.2)
theorem Sfy_B_layFits_b39 {G : ai_G} {d : Nat} {h0 : ai_H} (hO : hOld G h0) {α : Type} {P : α → Option ai_R → Prop} (v0 : Nat) (v1 : Int32) (v2 : Int32) (b0 : Int32) (b1 : yS) (J : JV × JV) {r : yS → Option α} (kk : ∀ (q : yS) (J : JV × JV × JV × JV × JV × JV), Tj G (d + 130) 287 P (r q) 212 [J.1.1, J.2.1.1, J.2.2.1.1, J.2.2.2.1.1, J.2.2.2.2.1.1, J.2.2.2.2.2.1] [] (yH q h0)) : Tj G (d + 130) 287 P ((lp (fy_B_layFits_b39 G v0 v1 v2) (b0, b1)).bind r) 39 [some (.ref v0), some (.int v1), some (.int v2), some (.int b0), J.1.1, J.2.1] [] (yH b1 h0) := tq_lp1 (J := J) (fun q J => wfy_B_layFits_b39 hO v0 v1 v2 q J) rfl rfl kk
theorem wfy_B_layFits {G : ai_G} {d : Nat} {h0 : ai_H} (hO : hOld G h0) (s : yS) (v0 : Nat) (v1 : Int32) : ∀ r, fy_B_layFits G s v0 v1 = some r → (PyV h0) r (ai_call G (d + 131) 287 [.ref v0, .int v1] (yH s h0)) := by
  refine tq_meth (P := (PyV h0)) (d := (d + 130)) (Nat.le_of_ble_eq_true rfl) ?_
  show Tj G (d + 130) 287 (PyV h0) (fy_B_layFits G s v0 v1) 0 [some (.ref v0), some (.int v1), none, none, none, none] [] (yH s h0)
  unfold fy_B_layFits
  refine tq_aload_n dX0_layFits_0 rfl ?_
  refine tq_iconst (v := 0) dX0_layFits_1 (by decide) ?_
  refine ty_wI dX0_layFits_2 rfl rfl rfl (fun s2 => ?_)
  refine tq_iconst (v := 0) dX0_layFits_5 (by decide) ?_
  refine tq_istore_n (L' := [_, _, _, _, _, _]) dX0_layFits_6 (Nat.le_of_ble_eq_true rfl) rfl ?_
  refine Sfy_B_layFits_b7 hO _ _ _ _ (⟨none, rfl⟩, ⟨none, rfl⟩, ⟨none, rfl⟩) (fun q7 J7 => ?_)
  refine tq_aload_n dX0_layFits_29 rfl ?_
  refine ty_gR dX0_layFits_30 rfl rfl (fun x30 => ?_)
  refine ty_gI dX0_layFits_33 rfl rfl (fun x33 => ?_)
  refine tq_istore_n (L' := [_, _, _, _, _, _]) dX0_layFits_36 (Nat.le_of_ble_eq_true rfl) rfl ?_
  refine tq_iconst (v := 0) dX0_layFits_37 (by decide) ?_
  refine tq_istore_n (L' := [_, _, _, _, _, _]) dX0_layFits_38 (Nat.le_of_ble_eq_true rfl) rfl ?_
  refine Sfy_B_layFits_b39 hO _ _ _ _ _ (J7.2.2.1, J7.2.2.2) (fun q39 J39 => ?_)
  exact tq_return dX0_layFits_212 rfl rfl
theorem wfy_B_fits {G : ai_G} {d : Nat} {h0 : ai_H} (hO : hOld G h0) (s : yS) (v0 : Nat) (v1 : Int32) : ∀ r, fy_B_fits G s v0 v1 = some r → (PyI h0) r (ai_call G (d + 132) 288 [.ref v0, .int v1] (yH s h0)) := by
  refine tq_meth (P := (PyI h0)) (d := (d + 131)) (Nat.le_of_ble_eq_true rfl) ?_
  show Tj G (d + 131) 288 (PyI h0) (fy_B_fits G s v0 v1) 0 [some (.ref v0), some (.int v1)] [] (yH s h0)
  unfold fy_B_fits
  refine tq_aload_n dX0_fits_0 rfl ?_
  refine tq_iload_n dX0_fits_1 rfl ?_
  refine ty_v1_V dX0_fits_2 rfl rfl rfl (Nat.le_of_ble_eq_true rfl) (wfy_B_layFits hO (d := d) _ _ _) (fun p2 => ?_)
  refine tq_aload_n dX0_fits_5 rfl ?_
  refine ty_gI dX0_fits_6 rfl rfl (fun x6 => ?_)
  exact tq_ireturn dX0_fits_9 rfl rfl
abbrev Pfy_B_sure_b35 (G : ai_G) (d : Nat) (h0 : ai_H) (s : yS) (v0 : Nat) (v1 : Int32) : Int32 ⊕ (Unit ⊕ (Int32 × yS)) → Option ai_R → Prop := Sum.elim (fun (q : Int32) run => ∃ J : JV, run = ai_run G (d + 131) 292 35 [some (.ref v0), some (.int v1), J.1, some (.int q)] [] (yH s h0)) (Sum.elim (fun (q : Unit) run => ∃ J : JV × JV × JV × JV, run = ai_run G (d + 131) 292 69 [J.1.1, J.2.1.1, J.2.2.1.1, J.2.2.2.1] [] (yH s h0)) (PyI h0))
theorem Bfy_B_sure_b35 {G : ai_G} {d : Nat} {h0 : ai_H} (hO : hOld G h0) (s : yS) (v0 : Nat) (v1 : Int32) (b0 : Int32) (J : JV) : Tj G (d + 131) 292 (Pfy_B_sure_b35 G d h0 s v0 v1) (some (.inl b0)) 35 [some (.ref v0), some (.int v1), J.1, some (.int b0)] [] (yH s h0) := tq_back J rfl rfl
theorem Efy_B_sure_b35 {G : ai_G} {d : Nat} {h0 : ai_H} (hO : hOld G h0) (s : yS) (v0 : Nat) (v1 : Int32)  (J : JV × JV × JV × JV) : Tj G (d + 131) 292 (Pfy_B_sure_b35 G d h0 s v0 v1) (some (.inr (.inl ()))) 69 [J.1.1, J.2.1.1, J.2.2.1.1, J.2.2.2.1] [] (yH s h0) := tq_exit2 J rfl rfl
theorem wfy_B_sure_b35 {G : ai_G} {d : Nat} {h0 : ai_H} (hO : hOld G h0) (s : yS) (v0 : Nat) (v1 : Int32) (q : Int32) (J : JV) : Tj G (d + 131) 292 (Pfy_B_sure_b35 G d h0 s v0 v1) (fy_B_sure_b35 G s v0 v1 q) 35 [some (.ref v0), some (.int v1), J.1, some (.int q)] [] (yH s h0) := by
  unfold fy_B_sure_b35
  refine tq_iload_n dX0_sure_35 rfl ?_
  refine tq_iconst (v := 2) dX0_sure_36 (by decide) ?_
  refine tq_icmp_ge dX0_sure_37 rfl ?_ ?_
  · exact Efy_B_sure_b35 hO _ _ _ (⟨some (.ref v0), rfl⟩, ⟨some (.int v1), rfl⟩, J, ⟨some (.int q), rfl⟩)
  · refine tq_aload_n dX0_sure_40 rfl ?_
    refine ty_gR dX0_sure_41 rfl rfl (fun x41 => ?_)
    refine tq_iconst (v := 3) dX0_sure_44 (by decide) ?_
    refine tq_iload_n dX0_sure_45 rfl ?_
    refine tq_iconst (v := 1) dX0_sure_46 (by decide) ?_
    refine tq_isub dX0_sure_47 ?_
    refine tq_imul dX0_sure_48 ?_
    refine tq_iload_n dX0_sure_49 rfl ?_
    refine tq_iadd dX0_sure_50 ?_
    refine tq_iconst (v := 1) dX0_sure_51 (by decide) ?_
    refine tq_iadd dX0_sure_52 ?_
    refine ty_iald dX0_sure_53 (fun x53 => ?_)
    refine tq_aload_n dX0_sure_54 rfl ?_
    refine ty_gI dX0_sure_55 rfl rfl (fun x55 => ?_)
    refine tq_icmp_ne dX0_sure_58 rfl ?_ ?_
    · refine tq_iinc (v := (q + 1)) (L' := [_, _, _, _]) dX0_sure_63 rfl (Nat.le_of_ble_eq_true rfl) rfl (st1_jv (i := 2) (j := J) rfl rfl) ?_
      refine tq_goto dX0_sure_66 rfl ?_
      exact Bfy_B_sure_b35 hO _ _ _ _ J
    · refine tq_iload_n dX0_sure_61 rfl ?_
      exact tq_ireturn dX0_sure_62 rfl rfl
theorem Sfy_B_sure_b35 {G : ai_G} {d : Nat} {h0 : ai_H} (hO : hOld G h0) {α : Type} {P : α → Option ai_R → Prop} (s : yS) (v0 : Nat) (v1 : Int32) (b0 : Int32) (J : JV) {r : Unit → Option α} {r2 : (Int32 × yS) → Option α} (k2 : ∀ v run, (PyI h0) v run → ∀ a, r2 v = some a → P a run) (kk : ∀ (q : Unit) (J : JV × JV × JV × JV), Tj G (d + 131) 292 P (r q) 69 [J.1.1, J.2.1.1, J.2.2.1.1, J.2.2.2.1] [] (yH s h0)) : Tj G (d + 131) 292 P ((lp (fy_B_sure_b35 G s v0 v1) b0).bind (Sum.elim r r2)) 35 [some (.ref v0), some (.int v1), J.1, some (.int b0)] [] (yH s h0) := tq_lp2 (J := J) (fun q J => wfy_B_sure_b35 hO s v0 v1 q J) rfl rfl k2 kk
theorem wfy_B_sure {G : ai_G} {d : Nat} {h0 : ai_H} (hO : hOld G h0) (s : yS) (v0 : Nat) (v1 : Int32) (v2 : Int32) : ∀ r, fy_B_sure G s v0 v1 v2 = some r → (PyI h0) r (ai_call G (d + 132) 292 [.ref v0, .int v1, .int v2] (yH s h0)) := by
  refine tq_meth (P := (PyI h0)) (d := (d + 131)) (Nat.le_of_ble_eq_true rfl) ?_
  show Tj G (d + 131) 292 (PyI h0) (fy_B_sure G s v0 v1 v2) 0 [some (.ref v0), some (.int v1), some (.int v2), none] [] (yH s h0)
  unfold fy_B_sure
  refine tq_iload_n dX0_sure_0 rfl ?_
  refine tq_iconst (v := 1) dX0_sure_1 (by decide) ?_
  refine tq_aload_n dX0_sure_2 rfl ?_
  refine ty_gR dX0_sure_3 rfl rfl (fun x3 => ?_)
  refine ty_gI dX0_sure_6 rfl rfl (fun x6 => ?_)
  refine ty_s3_pi dX0_sure_9 rfl rfl rfl (Nat.le_of_ble_eq_true rfl) (wfy_B_isIn (d := d + 130) _ _ _) (fun p9 => ?_)
  refine tq_if_ne dX0_sure_12 rfl ?_ ?_
  · refine tq_aload_n dX0_sure_18 rfl ?_
    refine tq_iload_n dX0_sure_19 rfl ?_
    refine ty_v1_V dX0_sure_20 rfl rfl rfl (Nat.le_of_ble_eq_true rfl) (wfy_B_layFits hO (d := d) _ _ _) (fun p20 => ?_)
    refine tq_aload_n dX0_sure_23 rfl ?_
    refine ty_gI dX0_sure_24 rfl rfl (fun x24 => ?_)
    refine tq_if_ne dX0_sure_27 rfl ?_ ?_
    · refine tq_iconst (v := (-1)) dX0_sure_33 (by decide) ?_
      refine tq_istore_n (L' := [_, _, _, _]) dX0_sure_34 (Nat.le_of_ble_eq_true rfl) rfl ?_
      refine Sfy_B_sure_b35 hO _ _ _ _ ⟨some (.int v2), rfl⟩ (fun v run hv a ha => by cases ha; exact hv) (fun q35 J35 => ?_)
      refine tq_bipush (v := (-2)) dX0_sure_69 (by decide) ?_
      exact tq_ireturn dX0_sure_71 rfl rfl
    · refine tq_bipush (v := (-3)) dX0_sure_30 (by decide) ?_
      exact tq_ireturn dX0_sure_32 rfl rfl
  · refine tq_bipush (v := (-3)) dX0_sure_15 (by decide) ?_
    exact tq_ireturn dX0_sure_17 rfl rfl
theorem wfy_B_mostOf {G : ai_G} {d : Nat} {h0 : ai_H} (hO : hOld G h0) (s : yS) (v0 : Nat) (v1 : Int32) : ∀ r, fy_B_mostOf G s v0 v1 = some r → (Pi (yH s h0)) r (ai_call G (d + 1) 294 [.ref v0, .int v1] (yH s h0)) := by
  refine tq_meth (P := (Pi (yH s h0))) (d := d) (Nat.le_of_ble_eq_true rfl) ?_
  show Tj G d 294 (Pi (yH s h0)) (fy_B_mostOf G s v0 v1) 0 [some (.ref v0), some (.int v1)] [] (yH s h0)
  unfold fy_B_mostOf
  refine tq_aload_n dX0_mostOf_0 rfl ?_
  refine ty_gR dX0_mostOf_1 rfl rfl (fun x1 => ?_)
  refine tq_iconst (v := 3) dX0_mostOf_4 (by decide) ?_
  refine tq_iload_n dX0_mostOf_5 rfl ?_
  refine tq_imul dX0_mostOf_6 ?_
  refine ty_iald dX0_mostOf_7 (fun x7 => ?_)
  refine tq_aload_n dX0_mostOf_8 rfl ?_
  refine ty_gR dX0_mostOf_9 rfl rfl (fun x9 => ?_)
  refine tq_iconst (v := 3) dX0_mostOf_12 (by decide) ?_
  refine tq_iload_n dX0_mostOf_13 rfl ?_
  refine tq_imul dX0_mostOf_14 ?_
  refine tq_iconst (v := 1) dX0_mostOf_15 (by decide) ?_
  refine tq_iadd dX0_mostOf_16 ?_
  refine ty_iald dX0_mostOf_17 (fun x17 => ?_)
  refine tq_aload_n dX0_mostOf_18 rfl ?_
  refine ty_gR dX0_mostOf_19 rfl rfl (fun x19 => ?_)
  refine tq_iconst (v := 3) dX0_mostOf_22 (by decide) ?_
  refine tq_iload_n dX0_mostOf_23 rfl ?_
  refine tq_imul dX0_mostOf_24 ?_
  refine tq_iconst (v := 2) dX0_mostOf_25 (by decide) ?_
  refine tq_iadd dX0_mostOf_26 ?_
  refine ty_iald dX0_mostOf_27 (fun x27 => ?_)
  refine tq_imax dX0_mostOf_28 rfl rfl (Nat.le_of_ble_eq_true rfl) ?_
  refine tq_imax dX0_mostOf_31 rfl rfl (Nat.le_of_ble_eq_true rfl) ?_
  exact tq_ireturn dX0_mostOf_34 rfl rfl
abbrev Pfy_B_ask_b30 (G : ai_G) (d : Nat) (h0 : ai_H) (s : yS) (v0 : Nat) (v1 : Int32) : (Int32 × Int32) ⊕ Int32 → Option ai_R → Prop := Sum.elim (fun (q : Int32 × Int32) run => ∃ J : JV, run = ai_run G (d + 131) 295 30 [some (.ref v0), some (.int v1), J.1, some (.int q.1), some (.int q.2)] [] (yH s h0)) (fun (q : Int32) run => ∃ J : JV × JV, run = ai_run G (d + 131) 295 65 [some (.ref v0), some (.int v1), J.1.1, some (.int q), J.2.1] [] (yH s h0))
theorem Bfy_B_ask_b30 {G : ai_G} {d : Nat} {h0 : ai_H} (hO : hOld G h0) (s : yS) (v0 : Nat) (v1 : Int32) (b0 : Int32) (b1 : Int32) (J : JV) : Tj G (d + 131) 295 (Pfy_B_ask_b30 G d h0 s v0 v1) (some (.inl (b0, b1))) 30 [some (.ref v0), some (.int v1), J.1, some (.int b0), some (.int b1)] [] (yH s h0) := tq_back J rfl rfl
theorem Efy_B_ask_b30 {G : ai_G} {d : Nat} {h0 : ai_H} (hO : hOld G h0) (s : yS) (v0 : Nat) (v1 : Int32) (b0 : Int32) (J : JV × JV) : Tj G (d + 131) 295 (Pfy_B_ask_b30 G d h0 s v0 v1) (some (.inr b0)) 65 [some (.ref v0), some (.int v1), J.1.1, some (.int b0), J.2.1] [] (yH s h0) := tq_exit J rfl rfl
theorem wfy_B_ask_b30 {G : ai_G} {d : Nat} {h0 : ai_H} (hO : hOld G h0) (s : yS) (v0 : Nat) (v1 : Int32) (q : Int32 × Int32) (J : JV) : Tj G (d + 131) 295 (Pfy_B_ask_b30 G d h0 s v0 v1) (fy_B_ask_b30 G s v0 v1 q) 30 [some (.ref v0), some (.int v1), J.1, some (.int q.1), some (.int q.2)] [] (yH s h0) := by
  unfold fy_B_ask_b30
  refine tq_iload dX0_ask_30 rfl ?_
  refine tq_aload_n dX0_ask_32 rfl ?_
  refine ty_gR dX0_ask_33 rfl rfl (fun x33 => ?_)
  refine ty_gI dX0_ask_36 rfl rfl (fun x36 => ?_)
  refine tq_icmp_ge dX0_ask_39 rfl ?_ ?_
  · exact Efy_B_ask_b30 hO _ _ _ _ (J, ⟨some (.int q.2), rfl⟩)
  · refine tq_aload_n dX0_ask_42 rfl ?_
    refine tq_iload dX0_ask_43 rfl ?_
    refine ty_v1_i dX0_ask_45 rfl rfl rfl (Nat.le_of_ble_eq_true rfl) (wfy_B_mostOf hO (d := d + 130) _ _ _) (fun p45 => ?_)
    refine tq_aload_n dX0_ask_48 rfl ?_
    refine tq_iload_n dX0_ask_49 rfl ?_
    refine ty_v1_i dX0_ask_50 rfl rfl rfl (Nat.le_of_ble_eq_true rfl) (wfy_B_mostOf hO (d := d + 130) _ _ _) (fun p50 => ?_)
    refine tq_icmp_ge dX0_ask_53 rfl ?_ ?_
    · refine tq_iinc (v := (q.2 + 1)) (L' := [_, _, _, _, _]) dX0_ask_59 rfl (Nat.le_of_ble_eq_true rfl) rfl rfl ?_
      refine tq_goto dX0_ask_62 rfl ?_
      exact Bfy_B_ask_b30 hO _ _ _ _ _ J
    · refine tq_iload dX0_ask_56 rfl ?_
      refine tq_istore_n (L' := [_, _, _, _, _]) dX0_ask_58 (Nat.le_of_ble_eq_true rfl) (st1_jv (i := 2) (j := J) rfl rfl) ?_
      refine tq_iinc (v := (q.2 + 1)) (L' := [_, _, _, _, _]) dX0_ask_59 rfl (Nat.le_of_ble_eq_true rfl) rfl rfl ?_
      refine tq_goto dX0_ask_62 rfl ?_
      exact Bfy_B_ask_b30 hO _ _ _ _ _ J
theorem Sfy_B_ask_b30 {G : ai_G} {d : Nat} {h0 : ai_H} (hO : hOld G h0) {α : Type} {P : α → Option ai_R → Prop} (s : yS) (v0 : Nat) (v1 : Int32) (b0 : Int32) (b1 : Int32) (J : JV) {r : Int32 → Option α} (kk : ∀ (q : Int32) (J : JV × JV), Tj G (d + 131) 295 P (r q) 65 [some (.ref v0), some (.int v1), J.1.1, some (.int q), J.2.1] [] (yH s h0)) : Tj G (d + 131) 295 P ((lp (fy_B_ask_b30 G s v0 v1) (b0, b1)).bind r) 30 [some (.ref v0), some (.int v1), J.1, some (.int b0), some (.int b1)] [] (yH s h0) := tq_lp1 (J := J) (fun q J => wfy_B_ask_b30 hO s v0 v1 q J) rfl rfl kk
theorem wfy_B_ask {G : ai_G} {d : Nat} {h0 : ai_H} (hO : hOld G h0) (s : yS) (v0 : Nat) (v1 : Int32) (v2 : Int32) : ∀ r, fy_B_ask G s v0 v1 v2 = some r → (PyI h0) r (ai_call G (d + 132) 295 [.ref v0, .int v1, .int v2] (yH s h0)) := by
  refine tq_meth (P := (PyI h0)) (d := (d + 131)) (Nat.le_of_ble_eq_true rfl) ?_
  show Tj G (d + 131) 295 (PyI h0) (fy_B_ask G s v0 v1 v2) 0 [some (.ref v0), some (.int v1), some (.int v2), none, none] [] (yH s h0)
  unfold fy_B_ask
  refine tq_iload_n dX0_ask_0 rfl ?_
  refine tq_iconst (v := 0) dX0_ask_1 (by decide) ?_
  refine tq_iconst (v := 1) dX0_ask_2 (by decide) ?_
  refine ty_s3_pi dX0_ask_3 rfl rfl rfl (Nat.le_of_ble_eq_true rfl) (wfy_B_isIn (d := d + 130) _ _ _) (fun p3 => ?_)
  refine tq_if_ne dX0_ask_6 rfl ?_ ?_
  · refine tq_aload_n dX0_ask_11 rfl ?_
    refine tq_iload_n dX0_ask_12 rfl ?_
    refine ty_v1_V dX0_ask_13 rfl rfl rfl (Nat.le_of_ble_eq_true rfl) (wfy_B_layFits hO (d := d) _ _ _) (fun p13 => ?_)
    refine tq_aload_n dX0_ask_16 rfl ?_
    refine ty_gI dX0_ask_17 rfl rfl (fun x17 => ?_)
    refine tq_if_ne dX0_ask_20 rfl ?_ ?_
    · refine tq_iconst (v := 0) dX0_ask_25 (by decide) ?_
      refine tq_istore_n (L' := [_, _, _, _, _]) dX0_ask_26 (Nat.le_of_ble_eq_true rfl) rfl ?_
      refine tq_iconst (v := 1) dX0_ask_27 (by decide) ?_
      refine tq_istore (L' := [_, _, _, _, _]) dX0_ask_28 (Nat.le_of_ble_eq_true rfl) rfl ?_
      refine Sfy_B_ask_b30 hO _ _ _ _ _ ⟨some (.int v2), rfl⟩ (fun q30 J30 => ?_)
      refine tq_iload_n dX0_ask_65 rfl ?_
      refine tq_if_ne dX0_ask_66 rfl ?_ ?_
      · refine tq_aload_n dX0_ask_75 rfl ?_
        refine tq_iload_n dX0_ask_76 rfl ?_
        refine ty_v1_i dX0_ask_77 rfl rfl rfl (Nat.le_of_ble_eq_true rfl) (wfy_B_mostOf hO (d := d + 130) _ _ _) (fun p77 => ?_)
        exact tq_ireturn dX0_ask_80 rfl rfl
      · refine tq_iload_n dX0_ask_69 rfl ?_
        refine tq_iconst (v := 1) dX0_ask_70 (by decide) ?_
        refine tq_iadd dX0_ask_71 ?_
        refine tq_goto dX0_ask_72 rfl ?_
        exact tq_ireturn dX0_ask_80 rfl rfl
    · refine tq_iconst (v := (-1)) dX0_ask_23 (by decide) ?_
      exact tq_ireturn dX0_ask_24 rfl rfl
  · refine tq_iconst (v := (-1)) dX0_ask_9 (by decide) ?_
    exact tq_ireturn dX0_ask_10 rfl rfl
theorem wfy_B_image {G : ai_G} {d : Nat} {h0 : ai_H} (hO : hOld G h0) (s : yS) (v0 : Nat) (v1 : Int32) : ∀ r, fy_B_image G s v0 v1 = some r → (PyI h0) r (ai_call G (d + 4) 298 [.ref v0, .int v1] (yH s h0)) := by
  refine tq_meth (P := (PyI h0)) (d := (d + 3)) (Nat.le_of_ble_eq_true rfl) ?_
  show Tj G (d + 3) 298 (PyI h0) (fy_B_image G s v0 v1) 0 [some (.ref v0), some (.int v1)] [] (yH s h0)
  unfold fy_B_image
  refine tq_iload_n dX0_image_0 rfl ?_
  refine tq_iconst (v := 0) dX0_image_1 (by decide) ?_
  refine tq_iconst (v := 2) dX0_image_2 (by decide) ?_
  refine ty_s3_pi dX0_image_3 rfl rfl rfl (Nat.le_of_ble_eq_true rfl) (wfy_B_isIn (d := d + 2) _ _ _) (fun p3 => ?_)
  refine tq_if_ne dX0_image_6 rfl ?_ ?_
  · refine tq_aload_n dX0_image_11 rfl ?_
    refine ty_gR dX0_image_12 rfl rfl (fun x12 => ?_)
    refine tq_iload_n dX0_image_15 rfl ?_
    refine ty_aald hO dX0_image_16 (fun x16 => ?_)
    refine tq_aload_n dX0_image_17 rfl ?_
    refine ty_gR dX0_image_18 rfl rfl (fun x18 => ?_)
    refine ty_s1_R dX0_image_21 rfl rfl rfl (Nat.le_of_ble_eq_true rfl) (wfy_B_copy hO (d := d + 1) _ _) (fun p21 => ?_)
    refine ty_wRr dX0_image_24 rfl rfl rfl (fun s24 => ?_)
    refine tq_aload_n dX0_image_27 rfl ?_
    refine ty_v0_i dX0_image_28 rfl rfl rfl (Nat.le_of_ble_eq_true rfl) (wfy_B_over hO (d := d) _ _) (fun p28 => ?_)
    refine ty_s1_pi dX0_image_31 rfl rfl rfl (Nat.le_of_ble_eq_true rfl) (wfy_J14_bitCount (d := d + 2) _) (fun p31 => ?_)
    exact tq_ireturn dX0_image_34 rfl rfl
  · refine tq_iconst (v := (-1)) dX0_image_9 (by decide) ?_
    exact tq_ireturn dX0_image_10 rfl rfl
theorem wfy_B_back {G : ai_G} {d : Nat} {h0 : ai_H} (hO : hOld G h0) (s : yS) (v0 : Nat) (v1 : Int32) : ∀ r, fy_B_back G s v0 v1 = some r → (PyI h0) r (ai_call G (d + 4) 301 [.ref v0, .int v1] (yH s h0)) := by
  refine tq_meth (P := (PyI h0)) (d := (d + 3)) (Nat.le_of_ble_eq_true rfl) ?_
  show Tj G (d + 3) 301 (PyI h0) (fy_B_back G s v0 v1) 0 [some (.ref v0), some (.int v1)] [] (yH s h0)
  unfold fy_B_back
  refine tq_iload_n dX0_back_0 rfl ?_
  refine tq_iconst (v := 0) dX0_back_1 (by decide) ?_
  refine tq_iconst (v := 2) dX0_back_2 (by decide) ?_
  refine ty_s3_pi dX0_back_3 rfl rfl rfl (Nat.le_of_ble_eq_true rfl) (wfy_B_isIn (d := d + 2) _ _ _) (fun p3 => ?_)
  refine tq_if_eq dX0_back_6 rfl ?_ ?_
  · refine tq_iconst (v := (-1)) dX0_back_21 (by decide) ?_
    exact tq_ireturn dX0_back_22 rfl rfl
  · refine tq_aload_n dX0_back_9 rfl ?_
    refine ty_gR dX0_back_10 rfl rfl (fun x10 => ?_)
    refine tq_iload_n dX0_back_13 rfl ?_
    refine ty_aald hO dX0_back_14 (fun x14 => ?_)
    refine ty_gN dX0_back_15 rfl rfl (fun x15 => ?_)
    refine tq_ifnonnull dX0_back_18 rfl ?_ ?_
    · refine tq_aload_n dX0_back_23 rfl ?_
      refine ty_gR dX0_back_24 rfl rfl (fun x24 => ?_)
      refine tq_aload_n dX0_back_27 rfl ?_
      refine ty_gR dX0_back_28 rfl rfl (fun x28 => ?_)
      refine tq_iload_n dX0_back_31 rfl ?_
      refine ty_aald hO dX0_back_32 (fun x32 => ?_)
      refine ty_gR dX0_back_33 rfl rfl (fun x33 => ?_)
      refine ty_v1_V dX0_back_36 rfl rfl rfl (Nat.le_of_ble_eq_true rfl) (wfy_State_of hO (d := d + 2) _ _ _) (fun p36 => ?_)
      refine tq_aload_n dX0_back_39 rfl ?_
      refine ty_gR dX0_back_40 rfl rfl (fun x40 => ?_)
      refine ty_v0_V dX0_back_43 rfl rfl rfl (Nat.le_of_ble_eq_true rfl) (wfy_List_clear hO (d := d + 2) _ _) (fun p43 => ?_)
      refine tq_aload_n dX0_back_46 rfl ?_
      refine ty_gR dX0_back_47 rfl rfl (fun x47 => ?_)
      refine ty_v0_V dX0_back_50 rfl rfl rfl (Nat.le_of_ble_eq_true rfl) (wfy_List_clear hO (d := d + 2) _ _) (fun p50 => ?_)
      refine tq_aload_n dX0_back_53 rfl ?_
      refine ty_v0_i dX0_back_54 rfl rfl rfl (Nat.le_of_ble_eq_true rfl) (wfy_B_over hO (d := d) _ _) (fun p54 => ?_)
      refine ty_s1_pi dX0_back_57 rfl rfl rfl (Nat.le_of_ble_eq_true rfl) (wfy_J14_bitCount (d := d + 2) _) (fun p57 => ?_)
      exact tq_ireturn dX0_back_60 rfl rfl
    · refine tq_iconst (v := (-1)) dX0_back_21 (by decide) ?_
      exact tq_ireturn dX0_back_22 rfl rfl
theorem wfy_B_about {G : ai_G} {d : Nat} {h0 : ai_H} (hO : hOld G h0) (s : yS) (v0 : Nat) (v1 : Int32) : ∀ r, fy_B_about G s v0 v1 = some r → (Pi (yH s h0)) r (ai_call G (d + 3) 303 [.ref v0, .int v1] (yH s h0)) := by
  refine tq_meth (P := (Pi (yH s h0))) (d := (d + 2)) (Nat.le_of_ble_eq_true rfl) ?_
  show Tj G (d + 2) 303 (Pi (yH s h0)) (fy_B_about G s v0 v1) 0 [some (.ref v0), some (.int v1)] [] (yH s h0)
  unfold fy_B_about
  refine tq_iload_n dX0_about_0 rfl ?_
  refine tq_case (fun c0 => ?_) (fun c0 => ?_)
  · rw [c0]
    refine tq_tsw (t := 68) dX0_about_1 (off := 67) (by decide) (by decide) ?_
    refine tq_aload_n dX0_about_68 rfl ?_
    refine ty_v0_i dX0_about_69 rfl rfl rfl (Nat.le_of_ble_eq_true rfl) (wfy_B_boards hO (d := d) _ _) (fun p69 => ?_)
    exact tq_ireturn dX0_about_72 rfl rfl
  refine tq_case (fun c1 => ?_) (fun c1 => ?_)
  · rw [c1]
    refine tq_tsw (t := 73) dX0_about_1 (off := 72) (by decide) (by decide) ?_
    refine tq_aload_n dX0_about_73 rfl ?_
    refine ty_v0_i dX0_about_74 rfl rfl rfl (Nat.le_of_ble_eq_true rfl) (wfy_B_loads hO (d := d) _ _) (fun p74 => ?_)
    exact tq_ireturn dX0_about_77 rfl rfl
  refine tq_case (fun c2 => ?_) (fun c2 => ?_)
  · rw [c2]
    refine tq_tsw (t := 78) dX0_about_1 (off := 77) (by decide) (by decide) ?_
    refine tq_aload_n dX0_about_78 rfl ?_
    refine ty_gR dX0_about_79 rfl rfl (fun x79 => ?_)
    refine ty_gI dX0_about_82 rfl rfl (fun x82 => ?_)
    exact tq_ireturn dX0_about_85 rfl rfl
  refine tq_case (fun c3 => ?_) (fun c3 => ?_)
  · rw [c3]
    refine tq_tsw (t := 86) dX0_about_1 (off := 85) (by decide) (by decide) ?_
    refine tq_aload_n dX0_about_86 rfl ?_
    refine ty_gR dX0_about_87 rfl rfl (fun x87 => ?_)
    refine ty_gI dX0_about_90 rfl rfl (fun x90 => ?_)
    exact tq_ireturn dX0_about_93 rfl rfl
  refine tq_case (fun c4 => ?_) (fun c4 => ?_)
  · rw [c4]
    refine tq_tsw (t := 94) dX0_about_1 (off := 93) (by decide) (by decide) ?_
    refine tq_aload_n dX0_about_94 rfl ?_
    refine ty_gR dX0_about_95 rfl rfl (fun x95 => ?_)
    refine ty_gI dX0_about_98 rfl rfl (fun x98 => ?_)
    exact tq_ireturn dX0_about_101 rfl rfl
  refine tq_case (fun c5 => ?_) (fun c5 => ?_)
  · rw [c5]
    refine tq_tsw (t := 102) dX0_about_1 (off := 101) (by decide) (by decide) ?_
    refine tq_aload_n dX0_about_102 rfl ?_
    refine ty_gR dX0_about_103 rfl rfl (fun x103 => ?_)
    refine ty_gI dX0_about_106 rfl rfl (fun x106 => ?_)
    exact tq_ireturn dX0_about_109 rfl rfl
  refine tq_case (fun c6 => ?_) (fun c6 => ?_)
  · rw [c6]
    refine tq_tsw (t := 110) dX0_about_1 (off := 109) (by decide) (by decide) ?_
    refine tq_aload_n dX0_about_110 rfl ?_
    refine ty_gR dX0_about_111 rfl rfl (fun x111 => ?_)
    refine ty_v0_i dX0_about_114 rfl rfl rfl (Nat.le_of_ble_eq_true rfl) (wfy_List_size hO (d := d + 1) _ _) (fun p114 => ?_)
    exact tq_ireturn dX0_about_117 rfl rfl
  refine tq_case (fun c7 => ?_) (fun c7 => ?_)
  · rw [c7]
    refine tq_tsw (t := 118) dX0_about_1 (off := 117) (by decide) (by decide) ?_
    refine tq_aload_n dX0_about_118 rfl ?_
    refine ty_gR dX0_about_119 rfl rfl (fun x119 => ?_)
    refine ty_v0_i dX0_about_122 rfl rfl rfl (Nat.le_of_ble_eq_true rfl) (wfy_List_size hO (d := d + 1) _ _) (fun p122 => ?_)
    exact tq_ireturn dX0_about_125 rfl rfl
  refine tq_case (fun c8 => ?_) (fun c8 => ?_)
  · rw [c8]
    refine tq_tsw (t := 126) dX0_about_1 (off := 125) (by decide) (by decide) ?_
    refine tq_aload_n dX0_about_126 rfl ?_
    refine ty_gR dX0_about_127 rfl rfl (fun x127 => ?_)
    refine ty_v0_i dX0_about_130 rfl rfl rfl (Nat.le_of_ble_eq_true rfl) (wfy_List_size hO (d := d + 1) _ _) (fun p130 => ?_)
    exact tq_ireturn dX0_about_133 rfl rfl
  refine tq_case (fun c9 => ?_) (fun c9 => ?_)
  · rw [c9]
    refine tq_tsw (t := 134) dX0_about_1 (off := 133) (by decide) (by decide) ?_
    refine tq_aload_n dX0_about_134 rfl ?_
    refine ty_gI dX0_about_135 rfl rfl (fun x135 => ?_)
    exact tq_ireturn dX0_about_138 rfl rfl
  refine tq_case (fun c10 => ?_) (fun c10 => ?_)
  · rw [c10]
    refine tq_tsw (t := 139) dX0_about_1 (off := 138) (by decide) (by decide) ?_
    refine tq_aload_n dX0_about_139 rfl ?_
    refine ty_gI dX0_about_140 rfl rfl (fun x140 => ?_)
    exact tq_ireturn dX0_about_143 rfl rfl
  refine tq_case (fun c11 => ?_) (fun c11 => ?_)
  · rw [c11]
    refine tq_tsw (t := 144) dX0_about_1 (off := 143) (by decide) (by decide) ?_
    refine tq_aload_n dX0_about_144 rfl ?_
    refine ty_gR dX0_about_145 rfl rfl (fun x145 => ?_)
    refine ty_gI dX0_about_148 rfl rfl (fun x148 => ?_)
    exact tq_ireturn dX0_about_151 rfl rfl
  refine tq_case (fun c12 => ?_) (fun c12 => ?_)
  · rw [c12]
    refine tq_tsw (t := 152) dX0_about_1 (off := 151) (by decide) (by decide) ?_
    refine tq_aload_n dX0_about_152 rfl ?_
    refine ty_gI dX0_about_153 rfl rfl (fun x153 => ?_)
    exact tq_ireturn dX0_about_156 rfl rfl
  refine tq_tsw (t := 157) dX0_about_1 (tsw_d (ks := [0, 1, 2, 3, 4, 5, 6, 7, 8, 9, 10, 11, 12]) (by decide) (by simp only [List.mem_cons, List.not_mem_nil, or_false]; rintro k (rfl | rfl | rfl | rfl | rfl | rfl | rfl | rfl | rfl | rfl | rfl | rfl | rfl) <;> assumption)) (by decide) ?_
  refine tq_iconst (v := (-1)) dX0_about_157 (by decide) ?_
  exact tq_ireturn dX0_about_158 rfl rfl

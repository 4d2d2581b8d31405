/-! WALKS of the component (printed by tools/decy.py) -/
set_option maxRecDepth 100000
theorem wfy_List_grow_2_j20 {G : ai_G} {d : Nat} {h0 : ai_H} (hO : hOld G h0) (j3 : JV)   (s : yS) (v0 : Nat) (v1 : Int32) (v2 : Int32): Tj G (d + 2) 65 (PyR h0) (fy_List_grow_2_j20 G s v0 v1 v2) 20 [some (.ref v0), some (.int v1), some (.int v2), j3.1] [] (yH s h0) := by
  unfold fy_List_grow_2_j20
  refine tq_iload_n dJ2_grow_2_20 rfl ?_
  refine tq_iload_n dJ2_grow_2_21 rfl ?_
  refine tq_iload_n dJ2_grow_2_22 rfl ?_
  refine tq_isub dJ2_grow_2_23 ?_
  refine tq_iload_n dJ2_grow_2_24 rfl ?_
  refine tq_iconst (v := 1) dJ2_grow_2_25 (by decide) ?_
  refine tq_ishr dJ2_grow_2_26 ?_
  refine ty_s3_pi dJ2_grow_2_27 rfl rfl rfl (Nat.le_of_ble_eq_true rfl) (wfy_J11_newLength (d := d) _ _ _) (fun p27 => ?_)
  refine tq_istore_n (L' := [_, _, _, _]) dJ2_grow_2_30 (Nat.le_of_ble_eq_true rfl) rfl ?_
  refine tq_aload_n dJ2_grow_2_31 rfl ?_
  refine tq_aload_n dJ2_grow_2_32 rfl ?_
  refine ty_gR dJ2_grow_2_33 rfl rfl (fun x33 => ?_)
  refine tq_iload_n dJ2_grow_2_36 rfl ?_
  refine ty_s2_R dJ2_grow_2_37 rfl rfl rfl (Nat.le_of_ble_eq_true rfl) (wfy_J13_copyOf hO (d := d) _ _ _) (fun p37 => ?_)
  refine tq_dup_x1 dJ2_grow_2_40 rfl rfl ?_
  refine ty_wRr dJ2_grow_2_41 rfl rfl rfl (fun s41 => ?_)
  exact tq_areturn dJ2_grow_2_44 rfl rfl rfl
theorem wfy_List_grow_2 {G : ai_G} {d : Nat} {h0 : ai_H} (hO : hOld G h0) (s : yS) (v0 : Nat) (v1 : Int32) : ∀ r, fy_List_grow_2 G s v0 v1 = some r → (PyR h0) r (ai_call G (d + 3) 65 [.ref v0, .int v1] (yH s h0)) := by
  refine tq_meth (P := (PyR h0)) (d := (d + 2)) (Nat.le_of_ble_eq_true rfl) ?_
  show Tj G (d + 2) 65 (PyR h0) (fy_List_grow_2 G s v0 v1) 0 [some (.ref v0), some (.int v1), none, none] [] (yH s h0)
  unfold fy_List_grow_2
  refine tq_aload_n dJ2_grow_2_0 rfl ?_
  refine ty_gR dJ2_grow_2_1 rfl rfl (fun x1 => ?_)
  refine ty_alen hO dJ2_grow_2_4 (fun x4 => ?_)
  refine tq_istore_n (L' := [_, _, _, _]) dJ2_grow_2_5 (Nat.le_of_ble_eq_true rfl) rfl ?_
  refine tq_iload_n dJ2_grow_2_6 rfl ?_
  refine tq_if_gt dJ2_grow_2_7 rfl ?_ ?_
  · exact wfy_List_grow_2_j20 hO ⟨none, rfl⟩ _ _ _ _
  · refine tq_aload_n dJ2_grow_2_10 rfl ?_
    refine ty_gR dJ2_grow_2_11 rfl rfl (fun x11 => ?_)
    refine ty_gets (k9 := 50) dJ2_grow_2_14 rfl (fun x14 => ?_)
    refine tq_acmp_eq dJ2_grow_2_17 rfl ?_ ?_
    · refine tq_aload_n dJ2_grow_2_45 rfl ?_
      refine tq_bipush (v := 10) dJ2_grow_2_46 (by decide) ?_
      refine tq_iload_n dJ2_grow_2_48 rfl ?_
      refine tq_imax dJ2_grow_2_49 rfl rfl (Nat.le_of_ble_eq_true rfl) ?_
      refine ty_anew dJ2_grow_2_52 rfl (Nat.le_of_ble_eq_true rfl) (fun s52 => ?_)
      refine tq_dup_x1 dJ2_grow_2_55 rfl rfl ?_
      refine ty_wRr dJ2_grow_2_56 rfl rfl rfl (fun s56 => ?_)
      exact tq_areturn dJ2_grow_2_59 rfl rfl rfl
    · exact wfy_List_grow_2_j20 hO ⟨none, rfl⟩ _ _ _ _
theorem wfy_List_grow {G : ai_G} {d : Nat} {h0 : ai_H} (hO : hOld G h0) (s : yS) (v0 : Nat) : ∀ r, fy_List_grow G s v0 = some r → (PyR h0) r (ai_call G (d + 4) 66 [.ref v0] (yH s h0)) := by
  refine tq_meth (P := (PyR h0)) (d := (d + 3)) (Nat.le_of_ble_eq_true rfl) ?_
  show Tj G (d + 3) 66 (PyR h0) (fy_List_grow G s v0) 0 [some (.ref v0)] [] (yH s h0)
  unfold fy_List_grow
  refine tq_aload_n dJ2_grow_0 rfl ?_
  refine tq_aload_n dJ2_grow_1 rfl ?_
  refine ty_gI dJ2_grow_2 rfl rfl (fun x2 => ?_)
  refine tq_iconst (v := 1) dJ2_grow_5 (by decide) ?_
  refine tq_iadd dJ2_grow_6 ?_
  refine ty_v1_R dJ2_grow_7 rfl rfl rfl (Nat.le_of_ble_eq_true rfl) (wfy_List_grow_2 hO (d := d) _ _ _) (fun p7 => ?_)
  exact tq_areturn dJ2_grow_10 rfl rfl rfl
theorem wfy_List_add_2_j11 {G : ai_G} {d : Nat} {h0 : ai_H} (hO : hOld G h0)    (s : yS) (v0 : Nat) (v1 : Nat) (v2 : Nat) (v3 : Int32): Tj G (d + 4) 67 (PyV h0) (fy_List_add_2_j11 G s v0 v1 v2 v3) 11 [some (.ref v0), some (.ref v1), some (.ref v2), some (.int v3)] [] (yH s h0) := by
  unfold fy_List_add_2_j11
  refine tq_aload_n dJ2_add_2_11 rfl ?_
  refine tq_iload_n dJ2_add_2_12 rfl ?_
  refine tq_aload_n dJ2_add_2_13 rfl ?_
  refine ty_aastR dJ2_add_2_14 (fun s14 => ?_)
  refine tq_aload_n dJ2_add_2_15 rfl ?_
  refine tq_iload_n dJ2_add_2_16 rfl ?_
  refine tq_iconst (v := 1) dJ2_add_2_17 (by decide) ?_
  refine tq_iadd dJ2_add_2_18 ?_
  refine ty_wI dJ2_add_2_19 rfl rfl rfl (fun s19 => ?_)
  exact tq_return dJ2_add_2_22 rfl rfl
theorem wfy_List_add_2 {G : ai_G} {d : Nat} {h0 : ai_H} (hO : hOld G h0) (s : yS) (v0 : Nat) (v1 : Nat) (v2 : Nat) (v3 : Int32) : ∀ r, fy_List_add_2 G s v0 v1 v2 v3 = some r → (PyV h0) r (ai_call G (d + 5) 67 [.ref v0, .ref v1, .ref v2, .int v3] (yH s h0)) := by
  refine tq_meth (P := (PyV h0)) (d := (d + 4)) (Nat.le_of_ble_eq_true rfl) ?_
  show Tj G (d + 4) 67 (PyV h0) (fy_List_add_2 G s v0 v1 v2 v3) 0 [some (.ref v0), some (.ref v1), some (.ref v2), some (.int v3)] [] (yH s h0)
  unfold fy_List_add_2
  refine tq_iload_n dJ2_add_2_0 rfl ?_
  refine tq_aload_n dJ2_add_2_1 rfl ?_
  refine ty_alen hO dJ2_add_2_2 (fun x2 => ?_)
  refine tq_icmp_ne dJ2_add_2_3 rfl ?_ ?_
  · exact wfy_List_add_2_j11 hO _ _ _ _ _
  · refine tq_aload_n dJ2_add_2_6 rfl ?_
    refine ty_v0_R dJ2_add_2_7 rfl rfl rfl (Nat.le_of_ble_eq_true rfl) (wfy_List_grow hO (d := d) _ _) (fun p7 => ?_)
    refine tq_astore_n (L' := [_, _, _, _]) dJ2_add_2_10 (Nat.le_of_ble_eq_true rfl) rfl ?_
    exact wfy_List_add_2_j11 hO _ _ _ _ _
theorem wfy_List_add {G : ai_G} {d : Nat} {h0 : ai_H} (hO : hOld G h0) (s : yS) (v0 : Nat) (v1 : Nat) : ∀ r, fy_List_add G s v0 v1 = some r → (PyI h0) r (ai_call G (d + 6) 68 [.ref v0, .ref v1] (yH s h0)) := by
  refine tq_meth (P := (PyI h0)) (d := (d + 5)) (Nat.le_of_ble_eq_true rfl) ?_
  show Tj G (d + 5) 68 (PyI h0) (fy_List_add G s v0 v1) 0 [some (.ref v0), some (.ref v1)] [] (yH s h0)
  unfold fy_List_add
  refine tq_aload_n dJ2_add_0 rfl ?_
  refine tq_dup dJ2_add_1 rfl ?_
  refine ty_gI dJ2_add_2 rfl rfl (fun x2 => ?_)
  refine tq_iconst (v := 1) dJ2_add_5 (by decide) ?_
  refine tq_iadd dJ2_add_6 ?_
  refine ty_wI dJ2_add_7 rfl rfl rfl (fun s7 => ?_)
  refine tq_aload_n dJ2_add_10 rfl ?_
  refine tq_aload_n dJ2_add_11 rfl ?_
  refine tq_aload_n dJ2_add_12 rfl ?_
  refine ty_gR dJ2_add_13 rfl rfl (fun x13 => ?_)
  refine tq_aload_n dJ2_add_16 rfl ?_
  refine ty_gI dJ2_add_17 rfl rfl (fun x17 => ?_)
  refine ty_v3_V dJ2_add_20 rfl rfl rfl (Nat.le_of_ble_eq_true rfl) (wfy_List_add_2 hO (d := d) _ _ _ _ _) (fun p20 => ?_)
  refine tq_iconst (v := 1) dJ2_add_23 (by decide) ?_
  exact tq_ireturn dJ2_add_24 (by decide) rfl
theorem wfy_Reader_board {G : ai_G} {d : Nat} {h0 : ai_H} (hO : hOld G h0) (s : yS) (v0 : Nat) : ∀ r, fy_Reader_board G s v0 = some r → (PtV h0) r (ai_call G (d + 8) 69 [.ref v0] (yH s h0)) := by
  refine tq_meth (P := (PtV h0)) (d := (d + 7)) (Nat.le_of_ble_eq_true rfl) ?_
  show Tj G (d + 7) 69 (PtV h0) (fy_Reader_board G s v0) 0 [some (.ref v0), none] [] (yH s h0)
  unfold fy_Reader_board
  refine ty_new dX9_board_0 rfl (fun s0 => ?_)
  refine tq_dup dX9_board_3 rfl ?_
  refine tq_aload_n dX9_board_4 rfl ?_
  refine tq_aload_n dX9_board_5 rfl ?_
  refine ty_gR dX9_board_6 rfl rfl (fun x6 => ?_)
  refine ty_gR dX9_board_9 rfl rfl (fun x9 => ?_)
  refine ty_v1_tJ dX9_board_12 rfl rfl rfl (Nat.le_of_ble_eq_true rfl) (by decide +kernel) rfl (wfy_Reader_fresh hO (d := d) _ _ _) (fun _ _ a ha => by cases ha; rfl) (fun v12 p12 => ?_)
  refine ty_c1_V dX9_board_15 rfl rfl rfl (Nat.le_of_ble_eq_true rfl) (wfy_Board_init hO (d := d + 5) _ _ _) (fun p15 => ?_)
  refine tq_astore_n (L' := [_, _]) dX9_board_18 (Nat.le_of_ble_eq_true rfl) rfl ?_
  refine tq_aload_n dX9_board_19 rfl ?_
  refine tq_aload_n dX9_board_20 rfl ?_
  refine ty_ldc (k9 := 10) dX9_board_21 rfl (fun x21 => ?_)
  refine tq_iconst (v := 0) dX9_board_23 (by decide) ?_
  refine tq_bipush (v := 99) dX9_board_24 (by decide) ?_
  refine ty_v3_tI dX9_board_26 rfl rfl rfl (Nat.le_of_ble_eq_true rfl) (by decide +kernel) rfl (wfy_Reader_after hO (d := d + 1) _ _ _ _ _) (fun _ _ a ha => by cases ha; rfl) (fun v26 p26 => ?_)
  refine ty_wI dX9_board_29 rfl rfl rfl (fun s29 => ?_)
  refine tq_aload_n dX9_board_32 rfl ?_
  refine tq_aload_n dX9_board_33 rfl ?_
  refine ty_ldc (k9 := 9) dX9_board_34 rfl (fun x34 => ?_)
  refine tq_iconst (v := 0) dX9_board_36 (by decide) ?_
  refine tq_aload_n dX9_board_37 rfl ?_
  refine ty_gR dX9_board_38 rfl rfl (fun x38 => ?_)
  refine ty_gI dX9_board_41 rfl rfl (fun x41 => ?_)
  refine tq_iconst (v := 1) dX9_board_44 (by decide) ?_
  refine tq_isub dX9_board_45 ?_
  refine ty_v3_tI dX9_board_46 rfl rfl rfl (Nat.le_of_ble_eq_true rfl) (by decide +kernel) rfl (wfy_Reader_after hO (d := d + 1) _ _ _ _ _) (fun _ _ a ha => by cases ha; rfl) (fun v46 p46 => ?_)
  refine ty_wI dX9_board_49 rfl rfl rfl (fun s49 => ?_)
  refine tq_aload_n dX9_board_52 rfl ?_
  refine ty_ldc (k9 := 11) dX9_board_53 rfl (fun x53 => ?_)
  refine ty_v1_I dX9_board_55 rfl rfl rfl (Nat.le_of_ble_eq_true rfl) (wfy_Reader_comes hO (d := d + 1) _ _ _) (fun p55 => ?_)
  refine tq_if_eq dX9_board_58 rfl ?_ ?_
  · refine tq_aload_n dX9_board_72 rfl ?_
    refine ty_gR dX9_board_73 rfl rfl (fun x73 => ?_)
    refine ty_gR dX9_board_76 rfl rfl (fun x76 => ?_)
    refine tq_aload_n dX9_board_79 rfl ?_
    refine ty_v1_I dX9_board_80 rfl rfl rfl (Nat.le_of_ble_eq_true rfl) (wfy_List_add hO (d := d + 1) _ _ _) (fun p80 => ?_)
    refine tq_pop dX9_board_83 rfl ?_
    exact tq_return dX9_board_84 rfl rfl
  · refine tq_aload_n dX9_board_61 rfl ?_
    refine tq_aload_n dX9_board_62 rfl ?_
    refine tq_iconst (v := 0) dX9_board_63 (by decide) ?_
    refine tq_bipush (v := 99) dX9_board_64 (by decide) ?_
    refine ty_v2_tI dX9_board_66 rfl rfl rfl (Nat.le_of_ble_eq_true rfl) (by decide +kernel) rfl (wfy_Reader_number hO (d := d + 3) _ _ _ _) (fun _ _ a ha => by cases ha; rfl) (fun v66 p66 => ?_)
    refine ty_wI dX9_board_69 rfl rfl rfl (fun s69 => ?_)
    refine tq_aload_n dX9_board_72 rfl ?_
    refine ty_gR dX9_board_73 rfl rfl (fun x73 => ?_)
    refine ty_gR dX9_board_76 rfl rfl (fun x76 => ?_)
    refine tq_aload_n dX9_board_79 rfl ?_
    refine ty_v1_I dX9_board_80 rfl rfl rfl (Nat.le_of_ble_eq_true rfl) (wfy_List_add hO (d := d + 1) _ _ _) (fun p80 => ?_)
    refine tq_pop dX9_board_83 rfl ?_
    exact tq_return dX9_board_84 rfl rfl
theorem wfy_Load_init {G : ai_G} {d : Nat} {h0 : ai_H} (hO : hOld G h0) (s : yS) (v0 : Nat) (v1 : Int64) : ∀ r, fy_Load_init G s v0 v1 = some r → (PyV h0) r (ai_call G (d + 2) 70 [.ref v0, .long v1] (yH s h0)) := by
  refine tq_meth (P := (PyV h0)) (d := (d + 1)) (Nat.le_of_ble_eq_true rfl) ?_
  show Tj G (d + 1) 70 (PyV h0) (fy_Load_init G s v0 v1) 0 [some (.ref v0), some (.long v1), none] [] (yH s h0)
  unfold fy_Load_init
  refine tq_aload_n dX12_init_0 rfl ?_
  refine tq_lload_n dX12_init_1 rfl ?_
  refine ty_c1_V dX12_init_2 rfl rfl rfl (Nat.le_of_ble_eq_true rfl) (wfy_Called_init hO (d := d) _ _ _) (fun p2 => ?_)
  exact tq_return dX12_init_5 rfl rfl
theorem wfy_Reader_load {G : ai_G} {d : Nat} {h0 : ai_H} (hO : hOld G h0) (s : yS) (v0 : Nat) : ∀ r, fy_Reader_load G s v0 = some r → (PtV h0) r (ai_call G (d + 8) 71 [.ref v0] (yH s h0)) := by
  refine tq_meth (P := (PtV h0)) (d := (d + 7)) (Nat.le_of_ble_eq_true rfl) ?_
  show Tj G (d + 7) 71 (PtV h0) (fy_Reader_load G s v0) 0 [some (.ref v0), none] [] (yH s h0)
  unfold fy_Reader_load
  refine ty_new dX9_load_0 rfl (fun s0 => ?_)
  refine tq_dup dX9_load_3 rfl ?_
  refine tq_aload_n dX9_load_4 rfl ?_
  refine tq_aload_n dX9_load_5 rfl ?_
  refine ty_gR dX9_load_6 rfl rfl (fun x6 => ?_)
  refine ty_gR dX9_load_9 rfl rfl (fun x9 => ?_)
  refine ty_v1_tJ dX9_load_12 rfl rfl rfl (Nat.le_of_ble_eq_true rfl) (by decide +kernel) rfl (wfy_Reader_fresh hO (d := d) _ _ _) (fun _ _ a ha => by cases ha; rfl) (fun v12 p12 => ?_)
  refine ty_c1_V dX9_load_15 rfl rfl rfl (Nat.le_of_ble_eq_true rfl) (wfy_Load_init hO (d := d + 5) _ _ _) (fun p15 => ?_)
  refine tq_astore_n (L' := [_, _]) dX9_load_18 (Nat.le_of_ble_eq_true rfl) rfl ?_
  refine tq_aload_n dX9_load_19 rfl ?_
  refine tq_aload_n dX9_load_20 rfl ?_
  refine ty_ldc (k9 := 10) dX9_load_21 rfl (fun x21 => ?_)
  refine tq_iconst (v := 0) dX9_load_23 (by decide) ?_
  refine tq_bipush (v := 99) dX9_load_24 (by decide) ?_
  refine ty_v3_tI dX9_load_26 rfl rfl rfl (Nat.le_of_ble_eq_true rfl) (by decide +kernel) rfl (wfy_Reader_after hO (d := d + 1) _ _ _ _ _) (fun _ _ a ha => by cases ha; rfl) (fun v26 p26 => ?_)
  refine ty_wI dX9_load_29 rfl rfl rfl (fun s29 => ?_)
  refine tq_aload_n dX9_load_32 rfl ?_
  refine ty_gR dX9_load_33 rfl rfl (fun x33 => ?_)
  refine ty_gR dX9_load_36 rfl rfl (fun x36 => ?_)
  refine tq_aload_n dX9_load_39 rfl ?_
  refine ty_v1_I dX9_load_40 rfl rfl rfl (Nat.le_of_ble_eq_true rfl) (wfy_List_add hO (d := d + 1) _ _ _) (fun p40 => ?_)
  refine tq_pop dX9_load_43 rfl ?_
  exact tq_return dX9_load_44 rfl rfl
theorem wfy_Reader_open {G : ai_G} {d : Nat} {h0 : ai_H} (hO : hOld G h0) (s : yS) (v0 : Nat) : ∀ r, fy_Reader_open G s v0 = some r → (PtV h0) r (ai_call G (d + 4) 72 [.ref v0] (yH s h0)) := by
  refine tq_meth (P := (PtV h0)) (d := (d + 3)) (Nat.le_of_ble_eq_true rfl) ?_
  show Tj G (d + 3) 72 (PtV h0) (fy_Reader_open G s v0) 0 [some (.ref v0)] [] (yH s h0)
  unfold fy_Reader_open
  refine tq_aload_n dX9_open_0 rfl ?_
  refine ty_gI dX9_open_1 rfl rfl (fun x1 => ?_)
  refine tq_bipush (v := 7) dX9_open_4 (by decide) ?_
  refine tq_icmp_ne dX9_open_6 rfl ?_ ?_
  · refine tq_aload_n dX9_open_14 rfl ?_
    refine tq_dup dX9_open_15 rfl ?_
    refine ty_gI dX9_open_16 rfl rfl (fun x16 => ?_)
    refine tq_iconst (v := 1) dX9_open_19 (by decide) ?_
    refine tq_iadd dX9_open_20 ?_
    refine ty_wI dX9_open_21 rfl rfl rfl (fun s21 => ?_)
    refine tq_aload_n dX9_open_24 rfl ?_
    refine ty_v0_V dX9_open_25 rfl rfl rfl (Nat.le_of_ble_eq_true rfl) (wfy_Reader_next hO (d := d) _ _) (fun p25 => ?_)
    exact tq_return dX9_open_28 rfl rfl
  · refine tq_aload_n dX9_open_9 rfl ?_
    refine ty_v0_R dX9_open_10 rfl rfl rfl (Nat.le_of_ble_eq_true rfl) (wfy_Reader_wrong hO (d := d + 1) _ _) (fun p10 => ?_)
    exact tq_athrow dX9_open_13 rfl (by decide +kernel) (fun _ a ha => by cases ha; rfl)
theorem wfy_Part_init {G : ai_G} {d : Nat} {h0 : ai_H} (hO : hOld G h0) (s : yS) (v0 : Nat) : ∀ r, fy_Part_init G s v0 = some r → (Pu (yH s h0)) r (ai_call G (d + 1) 73 [.ref v0] (yH s h0)) := by
  refine tq_meth (P := (Pu (yH s h0))) (d := d) (Nat.le_of_ble_eq_true rfl) ?_
  show Tj G d 73 (Pu (yH s h0)) (fy_Part_init G s v0) 0 [some (.ref v0)] [] (yH s h0)
  unfold fy_Part_init
  refine tq_aload_n dX13_init_0 rfl ?_
  refine tq_objI dX13_init_1 rfl (Nat.le_of_ble_eq_true rfl) ?_
  exact tq_return dX13_init_4 rfl rfl
theorem wfy_Not_init {G : ai_G} {d : Nat} {h0 : ai_H} (hO : hOld G h0) (s : yS) (v0 : Nat) (v1 : Nat) : ∀ r, fy_Not_init G s v0 v1 = some r → (PyV h0) r (ai_call G (d + 2) 74 [.ref v0, .ref v1] (yH s h0)) := by
  refine tq_meth (P := (PyV h0)) (d := (d + 1)) (Nat.le_of_ble_eq_true rfl) ?_
  show Tj G (d + 1) 74 (PyV h0) (fy_Not_init G s v0 v1) 0 [some (.ref v0), some (.ref v1)] [] (yH s h0)
  unfold fy_Not_init
  refine tq_aload_n dX14_init_0 rfl ?_
  refine ty_c0_u dX14_init_1 rfl rfl rfl (Nat.le_of_ble_eq_true rfl) (wfy_Part_init hO (d := d) _ _) (fun p1 => ?_)
  refine tq_aload_n dX14_init_4 rfl ?_
  refine tq_aload_n dX14_init_5 rfl ?_
  refine ty_wRr dX14_init_6 rfl rfl rfl (fun s6 => ?_)
  exact tq_return dX14_init_9 rfl rfl
theorem wfy_Reader_isSignHere {G : ai_G} {d : Nat} {h0 : ai_H} (hO : hOld G h0) (s : yS) (v0 : Nat) (v1 : Int32) : ∀ r, fy_Reader_isSignHere G s v0 v1 = some r → (Pi (yH s h0)) r (ai_call G (d + 2) 75 [.ref v0, .int v1] (yH s h0)) := by
  refine tq_meth (P := (Pi (yH s h0))) (d := (d + 1)) (Nat.le_of_ble_eq_true rfl) ?_
  show Tj G (d + 1) 75 (Pi (yH s h0)) (fy_Reader_isSignHere G s v0 v1) 0 [some (.ref v0), some (.int v1)] [] (yH s h0)
  unfold fy_Reader_isSignHere
  refine tq_aload_n dX9_isSignHere_0 rfl ?_
  refine ty_gI dX9_isSignHere_1 rfl rfl (fun x1 => ?_)
  refine tq_iconst (v := 3) dX9_isSignHere_4 (by decide) ?_
  refine tq_icmp_ne dX9_isSignHere_5 rfl ?_ ?_
  · refine tq_iconst (v := 0) dX9_isSignHere_24 (by decide) ?_
    exact tq_ireturn dX9_isSignHere_25 (by decide) rfl
  · refine tq_aload_n dX9_isSignHere_8 rfl ?_
    refine tq_aload_n dX9_isSignHere_9 rfl ?_
    refine ty_gI dX9_isSignHere_10 rfl rfl (fun x10 => ?_)
    refine ty_v1_i dX9_isSignHere_13 rfl rfl rfl (Nat.le_of_ble_eq_true rfl) (wfy_Reader_sign hO (d := d) _ _ _) (fun p13 => ?_)
    refine tq_iload_n dX9_isSignHere_16 rfl ?_
    refine tq_icmp_ne dX9_isSignHere_17 rfl ?_ ?_
    · refine tq_iconst (v := 0) dX9_isSignHere_24 (by decide) ?_
      exact tq_ireturn dX9_isSignHere_25 (by decide) rfl
    · refine tq_iconst (v := 1) dX9_isSignHere_20 (by decide) ?_
      refine tq_goto dX9_isSignHere_21 rfl ?_
      exact tq_ireturn dX9_isSignHere_25 (by decide) rfl
theorem wfy_Numeral_init {G : ai_G} {d : Nat} {h0 : ai_H} (hO : hOld G h0) (s : yS) (v0 : Nat) (v1 : Int32) : ∀ r, fy_Numeral_init G s v0 v1 = some r → (PyV h0) r (ai_call G (d + 2) 76 [.ref v0, .int v1] (yH s h0)) := by
  refine tq_meth (P := (PyV h0)) (d := (d + 1)) (Nat.le_of_ble_eq_true rfl) ?_
  show Tj G (d + 1) 76 (PyV h0) (fy_Numeral_init G s v0 v1) 0 [some (.ref v0), some (.int v1)] [] (yH s h0)
  unfold fy_Numeral_init
  refine tq_aload_n dX15_init_0 rfl ?_
  refine ty_c0_u dX15_init_1 rfl rfl rfl (Nat.le_of_ble_eq_true rfl) (wfy_Part_init hO (d := d) _ _) (fun p1 => ?_)
  refine tq_aload_n dX15_init_4 rfl ?_
  refine tq_iload_n dX15_init_5 rfl ?_
  refine ty_wI dX15_init_6 rfl rfl rfl (fun s6 => ?_)
  exact tq_return dX15_init_9 rfl rfl
theorem wfy_Named_init {G : ai_G} {d : Nat} {h0 : ai_H} (hO : hOld G h0) (s : yS) (v0 : Nat) (v1 : Int32) : ∀ r, fy_Named_init G s v0 v1 = some r → (PyV h0) r (ai_call G (d + 2) 77 [.ref v0, .int v1] (yH s h0)) := by
  refine tq_meth (P := (PyV h0)) (d := (d + 1)) (Nat.le_of_ble_eq_true rfl) ?_
  show Tj G (d + 1) 77 (PyV h0) (fy_Named_init G s v0 v1) 0 [some (.ref v0), some (.int v1)] [] (yH s h0)
  unfold fy_Named_init
  refine tq_aload_n dX16_init_0 rfl ?_
  refine ty_c0_u dX16_init_1 rfl rfl rfl (Nat.le_of_ble_eq_true rfl) (wfy_Part_init hO (d := d) _ _) (fun p1 => ?_)
  refine tq_aload_n dX16_init_4 rfl ?_
  refine tq_iload_n dX16_init_5 rfl ?_
  refine ty_wI dX16_init_6 rfl rfl rfl (fun s6 => ?_)
  exact tq_return dX16_init_9 rfl rfl
theorem wfy_Reader_unit_j31 {G : ai_G} {d : Nat} {h0 : ai_H} (hO : hOld G h0) (j3 : JV) {rE rO : yS → Nat → Option ((Nat ⊕ Nat) × yS)} (hE : ∀ (s : yS) (v0 : Nat) r, rE s v0 = some r → PtR h0 r (ai_call G d 84 [.ref v0] (yH s h0))) (hR : ∀ (s : yS) (v0 : Nat) r, rO s v0 = some r → PtR h0 r (ai_call G d 82 [.ref v0] (yH s h0)))   (s : yS) (v0 : Nat) (v1 : Int32) (v2 : Int32): Tj G (d + 6) 78 (PtR h0) (fy_Reader_unit_j31 G rE rO s v0 v1 v2) 31 [some (.ref v0), some (.int v1), some (.int v2), j3.1] [] (yH s h0) := by
  unfold fy_Reader_unit_j31
  refine tq_aload_n dX9_unit_31 rfl ?_
  refine ty_gR dX9_unit_32 rfl rfl (fun x32 => ?_)
  refine ty_gI dX9_unit_35 rfl rfl (fun x35 => ?_)
  refine tq_bipush (v := 60) dX9_unit_38 (by decide) ?_
  refine tq_icmp_eq dX9_unit_40 rfl ?_ ?_
  · refine tq_aload_n dX9_unit_52 rfl ?_
    refine ty_v0_R dX9_unit_53 rfl rfl rfl (Nat.le_of_ble_eq_true rfl) (wfy_Reader_wrong hO (d := d + 4) _ _) (fun p53 => ?_)
    exact tq_athrow dX9_unit_56 rfl (by decide +kernel) (fun _ a ha => by cases ha; rfl)
  · refine tq_aload_n dX9_unit_43 rfl ?_
    refine ty_gI dX9_unit_44 rfl rfl (fun x44 => ?_)
    refine tq_bipush (v := 30) dX9_unit_47 (by decide) ?_
    refine tq_icmp_ne dX9_unit_49 rfl ?_ ?_
    · refine tq_aload_n dX9_unit_57 rfl ?_
      refine ty_gR dX9_unit_58 rfl rfl (fun x58 => ?_)
      refine tq_dup dX9_unit_61 rfl ?_
      refine ty_gI dX9_unit_62 rfl rfl (fun x62 => ?_)
      refine tq_iconst (v := 1) dX9_unit_65 (by decide) ?_
      refine tq_iadd dX9_unit_66 ?_
      refine ty_wI dX9_unit_67 rfl rfl rfl (fun s67 => ?_)
      refine tq_aload_n dX9_unit_70 rfl ?_
      refine tq_dup dX9_unit_71 rfl ?_
      refine ty_gI dX9_unit_72 rfl rfl (fun x72 => ?_)
      refine tq_iconst (v := 1) dX9_unit_75 (by decide) ?_
      refine tq_iadd dX9_unit_76 ?_
      refine ty_wI dX9_unit_77 rfl rfl rfl (fun s77 => ?_)
      refine tq_iload_n dX9_unit_80 rfl ?_
      refine tq_if_eq dX9_unit_81 rfl ?_ ?_
      · refine tq_iload_n dX9_unit_115 rfl ?_
        refine tq_if_ge dX9_unit_116 rfl ?_ ?_
        · refine ty_new dX9_unit_133 rfl (fun s133 => ?_)
          refine tq_dup dX9_unit_136 rfl ?_
          refine tq_iload_n dX9_unit_137 rfl ?_
          refine ty_c1_V dX9_unit_138 rfl rfl rfl (Nat.le_of_ble_eq_true rfl) (wfy_Named_init hO (d := d + 4) _ _ _) (fun p138 => ?_)
          refine tq_astore_n (L' := [_, _, _, _]) dX9_unit_141 (Nat.le_of_ble_eq_true rfl) rfl ?_
          refine tq_aload_n dX9_unit_142 rfl ?_
          refine ty_v0_V dX9_unit_143 rfl rfl rfl (Nat.le_of_ble_eq_true rfl) (wfy_Reader_next hO (d := d + 3) _ _) (fun p143 => ?_)
          refine tq_aload_n dX9_unit_146 rfl ?_
          exact tq_areturn dX9_unit_147 rfl rfl rfl
        · refine ty_new dX9_unit_119 rfl (fun s119 => ?_)
          refine tq_dup dX9_unit_122 rfl ?_
          refine tq_aload_n dX9_unit_123 rfl ?_
          refine ty_gI dX9_unit_124 rfl rfl (fun x124 => ?_)
          refine ty_c1_V dX9_unit_127 rfl rfl rfl (Nat.le_of_ble_eq_true rfl) (wfy_Numeral_init hO (d := d + 4) _ _ _) (fun p127 => ?_)
          refine tq_goto dX9_unit_130 rfl ?_
          refine tq_astore_n (L' := [_, _, _, _]) dX9_unit_141 (Nat.le_of_ble_eq_true rfl) rfl ?_
          refine tq_aload_n dX9_unit_142 rfl ?_
          refine ty_v0_V dX9_unit_143 rfl rfl rfl (Nat.le_of_ble_eq_true rfl) (wfy_Reader_next hO (d := d + 3) _ _) (fun p143 => ?_)
          refine tq_aload_n dX9_unit_146 rfl ?_
          exact tq_areturn dX9_unit_147 rfl rfl rfl
      · refine tq_aload_n dX9_unit_84 rfl ?_
        refine ty_v0_tV dX9_unit_85 rfl rfl rfl (Nat.le_of_ble_eq_true rfl) (by decide +kernel) rfl (wfy_Reader_open hO (d := d + 2) _ _) (fun _ _ a ha => by cases ha; rfl) (fun _ p85 => ?_)
        refine tq_aload_n dX9_unit_88 rfl ?_
        refine ty_v0_tR dX9_unit_89 rfl rfl rfl (Nat.le_of_ble_eq_true rfl) (by decide +kernel) rfl (fun b hb => acm (hE _ _ b hb) 6) (fun _ _ a ha => by cases ha; rfl) (fun v89 p89 => ?_)
        refine tq_astore_n (L' := [_, _, _, _]) dX9_unit_92 (Nat.le_of_ble_eq_true rfl) rfl ?_
        refine tq_aload_n dX9_unit_93 rfl ?_
        refine tq_dup dX9_unit_94 rfl ?_
        refine ty_gI dX9_unit_95 rfl rfl (fun x95 => ?_)
        refine tq_iconst (v := 1) dX9_unit_98 (by decide) ?_
        refine tq_isub dX9_unit_99 ?_
        refine ty_wI dX9_unit_100 rfl rfl rfl (fun s100 => ?_)
        refine tq_aload_n dX9_unit_103 rfl ?_
        refine tq_aload_n dX9_unit_104 rfl ?_
        refine tq_bipush (v := 41) dX9_unit_105 (by decide) ?_
        refine ty_v1_i dX9_unit_107 rfl rfl rfl (Nat.le_of_ble_eq_true rfl) (wfy_Reader_isSignHere hO (d := d + 4) _ _ _) (fun p107 => ?_)
        refine ty_v1_tV dX9_unit_110 rfl rfl rfl (Nat.le_of_ble_eq_true rfl) (by decide +kernel) rfl (wfy_Reader_must hO (d := d + 2) _ _ _) (fun _ _ a ha => by cases ha; rfl) (fun _ p110 => ?_)
        refine tq_aload_n dX9_unit_113 rfl ?_
        exact tq_areturn dX9_unit_114 rfl rfl rfl
    · refine tq_aload_n dX9_unit_52 rfl ?_
      refine ty_v0_R dX9_unit_53 rfl rfl rfl (Nat.le_of_ble_eq_true rfl) (wfy_Reader_wrong hO (d := d + 4) _ _) (fun p53 => ?_)
      exact tq_athrow dX9_unit_56 rfl (by decide +kernel) (fun _ a ha => by cases ha; rfl)
theorem wfy_Reader_unit {G : ai_G} {d : Nat} {h0 : ai_H} (hO : hOld G h0) {rE rO : yS → Nat → Option ((Nat ⊕ Nat) × yS)} (hE : ∀ (s : yS) (v0 : Nat) r, rE s v0 = some r → PtR h0 r (ai_call G d 84 [.ref v0] (yH s h0))) (hR : ∀ (s : yS) (v0 : Nat) r, rO s v0 = some r → PtR h0 r (ai_call G d 82 [.ref v0] (yH s h0))) (s : yS) (v0 : Nat) : ∀ r, fy_Reader_unit G rE rO s v0 = some r → (PtR h0) r (ai_call G (d + 7) 78 [.ref v0] (yH s h0)) := by
  refine tq_meth (P := (PtR h0)) (d := (d + 6)) (Nat.le_of_ble_eq_true rfl) ?_
  show Tj G (d + 6) 78 (PtR h0) (fy_Reader_unit G rE rO s v0) 0 [some (.ref v0), none, none, none] [] (yH s h0)
  unfold fy_Reader_unit
  refine tq_aload_n dX9_unit_0 rfl ?_
  refine tq_bipush (v := 40) dX9_unit_1 (by decide) ?_
  refine ty_v1_i dX9_unit_3 rfl rfl rfl (Nat.le_of_ble_eq_true rfl) (wfy_Reader_isSignHere hO (d := d + 4) _ _ _) (fun p3 => ?_)
  refine tq_istore_n (L' := [_, _, _, _]) dX9_unit_6 (Nat.le_of_ble_eq_true rfl) rfl ?_
  refine tq_aload_n dX9_unit_7 rfl ?_
  refine ty_gets (k9 := 54) dX9_unit_8 rfl (fun x8 => ?_)
  refine ty_v1_i dX9_unit_11 rfl rfl rfl (Nat.le_of_ble_eq_true rfl) (wfy_Reader_which hO (d := d) _ _ _) (fun p11 => ?_)
  refine tq_istore_n (L' := [_, _, _, _]) dX9_unit_14 (Nat.le_of_ble_eq_true rfl) rfl ?_
  refine tq_iload_n dX9_unit_15 rfl ?_
  refine tq_if_ne dX9_unit_16 rfl ?_ ?_
  · exact wfy_Reader_unit_j31 hO ⟨none, rfl⟩ hE hR _ _ _ _
  · refine tq_iload_n dX9_unit_19 rfl ?_
    refine tq_if_ge dX9_unit_20 rfl ?_ ?_
    · exact wfy_Reader_unit_j31 hO ⟨none, rfl⟩ hE hR _ _ _ _
    · refine tq_aload_n dX9_unit_23 rfl ?_
      refine ty_gI dX9_unit_24 rfl rfl (fun x24 => ?_)
      refine tq_iconst (v := 2) dX9_unit_27 (by decide) ?_
      refine tq_icmp_ne dX9_unit_28 rfl ?_ ?_
      · refine tq_aload_n dX9_unit_52 rfl ?_
        refine ty_v0_R dX9_unit_53 rfl rfl rfl (Nat.le_of_ble_eq_true rfl) (wfy_Reader_wrong hO (d := d + 4) _ _) (fun p53 => ?_)
        exact tq_athrow dX9_unit_56 rfl (by decide +kernel) (fun _ a ha => by cases ha; rfl)
      · exact wfy_Reader_unit_j31 hO ⟨none, rfl⟩ hE hR _ _ _ _
theorem wfy_Two_init {G : ai_G} {d : Nat} {h0 : ai_H} (hO : hOld G h0) (s : yS) (v0 : Nat) (v1 : Int32) (v2 : Nat) (v3 : Nat) : ∀ r, fy_Two_init G s v0 v1 v2 v3 = some r → (PyV h0) r (ai_call G (d + 2) 79 [.ref v0, .int v1, .ref v2, .ref v3] (yH s h0)) := by
  refine tq_meth (P := (PyV h0)) (d := (d + 1)) (Nat.le_of_ble_eq_true rfl) ?_
  show Tj G (d + 1) 79 (PyV h0) (fy_Two_init G s v0 v1 v2 v3) 0 [some (.ref v0), some (.int v1), some (.ref v2), some (.ref v3)] [] (yH s h0)
  unfold fy_Two_init
  refine tq_aload_n dX17_init_0 rfl ?_
  refine ty_c0_u dX17_init_1 rfl rfl rfl (Nat.le_of_ble_eq_true rfl) (wfy_Part_init hO (d := d) _ _) (fun p1 => ?_)
  refine tq_aload_n dX17_init_4 rfl ?_
  refine tq_iload_n dX17_init_5 rfl ?_
  refine ty_wI dX17_init_6 rfl rfl rfl (fun s6 => ?_)
  refine tq_aload_n dX17_init_9 rfl ?_
  refine tq_aload_n dX17_init_10 rfl ?_
  refine ty_wRr dX17_init_11 rfl rfl rfl (fun s11 => ?_)
  refine tq_aload_n dX17_init_14 rfl ?_
  refine tq_aload_n dX17_init_15 rfl ?_
  refine ty_wRr dX17_init_16 rfl rfl rfl (fun s16 => ?_)
  exact tq_return dX17_init_19 rfl rfl
abbrev Pfy_Reader_term_b5 (G : ai_G) (d : Nat) (h0 : ai_H) (v0 : Nat) : (Nat × yS) ⊕ ((Nat × yS) ⊕ ((Nat ⊕ Nat) × yS)) → Option ai_R → Prop := Sum.elim (fun (q : Nat × yS) run => ∃ J : JV, run = ai_run G (d + 7) 80 5 [some (.ref v0), some (.ref q.1), J.1] [] (yH q.2 h0)) (Sum.elim (fun (q : Nat × yS) run => ∃ J : JV × JV, run = ai_run G (d + 7) 80 62 [J.1.1, some (.ref q.1), J.2.1] [] (yH q.2 h0)) (PtR h0))
theorem Bfy_Reader_term_b5 {G : ai_G} {d : Nat} {h0 : ai_H} (hO : hOld G h0) (v0 : Nat) (b0 : Nat) (b1 : yS) (J : JV) : Tj G (d + 7) 80 (Pfy_Reader_term_b5 G d h0 v0) (some (.inl (b0, b1))) 5 [some (.ref v0), some (.ref b0), J.1] [] (yH b1 h0) := tq_back J rfl rfl
theorem Efy_Reader_term_b5 {G : ai_G} {d : Nat} {h0 : ai_H} (hO : hOld G h0) (v0 : Nat) (b0 : Nat) (b1 : yS) (J : JV × JV) : Tj G (d + 7) 80 (Pfy_Reader_term_b5 G d h0 v0) (some (.inr (.inl (b0, b1)))) 62 [J.1.1, some (.ref b0), J.2.1] [] (yH b1 h0) := tq_exit2 J rfl rfl
theorem wfy_Reader_term_j32 {G : ai_G} {d : Nat} {h0 : ai_H} (hO : hOld G h0) (j2 : JV) {rE rO : yS → Nat → Option ((Nat ⊕ Nat) × yS)} (hE : ∀ (s : yS) (v0 : Nat) r, rE s v0 = some r → PtR h0 r (ai_call G d 84 [.ref v0] (yH s h0))) (hR : ∀ (s : yS) (v0 : Nat) r, rO s v0 = some r → PtR h0 r (ai_call G d 82 [.ref v0] (yH s h0)))   (s : yS) (v0 : Nat) (v1 : Nat): Tj G (d + 7) 80 (Pfy_Reader_term_b5 G d h0 v0) (fy_Reader_term_j32 G rE rO s v0 v1) 32 [some (.ref v0), some (.ref v1), j2.1] [] (yH s h0) := by
  unfold fy_Reader_term_j32
  refine tq_aload_n dX9_term_32 rfl ?_
  refine tq_aload_n dX9_term_33 rfl ?_
  refine ty_gI dX9_term_34 rfl rfl (fun x34 => ?_)
  refine ty_v1_i dX9_term_37 rfl rfl rfl (Nat.le_of_ble_eq_true rfl) (wfy_Reader_sign hO (d := d + 6) _ _ _) (fun p37 => ?_)
  refine tq_istore_n (L' := [_, _, _]) dX9_term_40 (Nat.le_of_ble_eq_true rfl) rfl ?_
  refine tq_aload_n dX9_term_41 rfl ?_
  refine ty_v0_V dX9_term_42 rfl rfl rfl (Nat.le_of_ble_eq_true rfl) (wfy_Reader_next hO (d := d + 4) _ _) (fun p42 => ?_)
  refine ty_new dX9_term_45 rfl (fun s45 => ?_)
  refine tq_dup dX9_term_48 rfl ?_
  refine tq_iload_n dX9_term_49 rfl ?_
  refine tq_aload_n dX9_term_50 rfl ?_
  refine tq_aload_n dX9_term_51 rfl ?_
  refine ty_v0_tR dX9_term_52 rfl rfl rfl (Nat.le_of_ble_eq_true rfl) (by decide +kernel) rfl (fun b hb => acm (wfy_Reader_unit hO hE hR _ _ b hb) 0) (fun _ _ a ha => by cases ha; rfl) (fun v52 p52 => ?_)
  refine ty_c3_V dX9_term_55 rfl rfl rfl (Nat.le_of_ble_eq_true rfl) (wfy_Two_init hO (d := d + 5) _ _ _ _ _) (fun p55 => ?_)
  refine tq_astore_n (L' := [_, _, _]) dX9_term_58 (Nat.le_of_ble_eq_true rfl) rfl ?_
  refine tq_goto dX9_term_59 rfl ?_
  exact Bfy_Reader_term_b5 hO _ _ _ ⟨some (.int p37), rfl⟩
theorem wfy_Reader_term_b5 {G : ai_G} {d : Nat} {h0 : ai_H} (hO : hOld G h0) {rE rO : yS → Nat → Option ((Nat ⊕ Nat) × yS)} (hE : ∀ (s : yS) (v0 : Nat) r, rE s v0 = some r → PtR h0 r (ai_call G d 84 [.ref v0] (yH s h0))) (hR : ∀ (s : yS) (v0 : Nat) r, rO s v0 = some r → PtR h0 r (ai_call G d 82 [.ref v0] (yH s h0))) (v0 : Nat) (q : Nat × yS) (J : JV) : Tj G (d + 7) 80 (Pfy_Reader_term_b5 G d h0 v0) (fy_Reader_term_b5 G rE rO v0 q) 5 [some (.ref v0), some (.ref q.1), J.1] [] (yH q.2 h0) := by
  unfold fy_Reader_term_b5
  refine tq_aload_n dX9_term_5 rfl ?_
  refine tq_bipush (v := 42) dX9_term_6 (by decide) ?_
  refine ty_v1_i dX9_term_8 rfl rfl rfl (Nat.le_of_ble_eq_true rfl) (wfy_Reader_isSignHere hO (d := d + 5) _ _ _) (fun p8 => ?_)
  refine tq_if_ne dX9_term_11 rfl ?_ ?_
  · exact wfy_Reader_term_j32 hO J hE hR _ _ _
  · refine tq_aload_n dX9_term_14 rfl ?_
    refine tq_bipush (v := 47) dX9_term_15 (by decide) ?_
    refine ty_v1_i dX9_term_17 rfl rfl rfl (Nat.le_of_ble_eq_true rfl) (wfy_Reader_isSignHere hO (d := d + 5) _ _ _) (fun p17 => ?_)
    refine tq_if_ne dX9_term_20 rfl ?_ ?_
    · exact wfy_Reader_term_j32 hO J hE hR _ _ _
    · refine tq_aload_n dX9_term_23 rfl ?_
      refine tq_bipush (v := 37) dX9_term_24 (by decide) ?_
      refine ty_v1_i dX9_term_26 rfl rfl rfl (Nat.le_of_ble_eq_true rfl) (wfy_Reader_isSignHere hO (d := d + 5) _ _ _) (fun p26 => ?_)
      refine tq_if_eq dX9_term_29 rfl ?_ ?_
      · exact Efy_Reader_term_b5 hO _ _ _ (⟨some (.ref v0), rfl⟩, J)
      · exact wfy_Reader_term_j32 hO J hE hR _ _ _
theorem Sfy_Reader_term_b5 {G : ai_G} {d : Nat} {h0 : ai_H} (hO : hOld G h0) {α : Type} {P : α → Option ai_R → Prop} {rE rO : yS → Nat → Option ((Nat ⊕ Nat) × yS)} (hE : ∀ (s : yS) (v0 : Nat) r, rE s v0 = some r → PtR h0 r (ai_call G d 84 [.ref v0] (yH s h0))) (hR : ∀ (s : yS) (v0 : Nat) r, rO s v0 = some r → PtR h0 r (ai_call G d 82 [.ref v0] (yH s h0))) (v0 : Nat) (b0 : Nat) (b1 : yS) (J : JV) {r : (Nat × yS) → Option α} {r2 : ((Nat ⊕ Nat) × yS) → Option α} (k2 : ∀ v run, (PtR h0) v run → ∀ a, r2 v = some a → P a run) (kk : ∀ (q : Nat × yS) (J : JV × JV), Tj G (d + 7) 80 P (r q) 62 [J.1.1, some (.ref q.1), J.2.1] [] (yH q.2 h0)) : Tj G (d + 7) 80 P ((lp (fy_Reader_term_b5 G rE rO v0) (b0, b1)).bind (Sum.elim r r2)) 5 [some (.ref v0), some (.ref b0), J.1] [] (yH b1 h0) := tq_lp2 (J := J) (fun q J => wfy_Reader_term_b5 hO hE hR v0 q J) rfl rfl k2 kk
theorem wfy_Reader_term {G : ai_G} {d : Nat} {h0 : ai_H} (hO : hOld G h0) {rE rO : yS → Nat → Option ((Nat ⊕ Nat) × yS)} (hE : ∀ (s : yS) (v0 : Nat) r, rE s v0 = some r → PtR h0 r (ai_call G d 84 [.ref v0] (yH s h0))) (hR : ∀ (s : yS) (v0 : Nat) r, rO s v0 = some r → PtR h0 r (ai_call G d 82 [.ref v0] (yH s h0))) (s : yS) (v0 : Nat) : ∀ r, fy_Reader_term G rE rO s v0 = some r → (PtR h0) r (ai_call G (d + 8) 80 [.ref v0] (yH s h0)) := by
  refine tq_meth (P := (PtR h0)) (d := (d + 7)) (Nat.le_of_ble_eq_true rfl) ?_
  show Tj G (d + 7) 80 (PtR h0) (fy_Reader_term G rE rO s v0) 0 [some (.ref v0), none, none] [] (yH s h0)
  unfold fy_Reader_term
  refine tq_aload_n dX9_term_0 rfl ?_
  refine ty_v0_tR dX9_term_1 rfl rfl rfl (Nat.le_of_ble_eq_true rfl) (by decide +kernel) rfl (fun b hb => acm (wfy_Reader_unit hO hE hR _ _ b hb) 0) (fun _ _ a ha => by cases ha; rfl) (fun v1 p1 => ?_)
  refine tq_astore_n (L' := [_, _, _]) dX9_term_4 (Nat.le_of_ble_eq_true rfl) rfl ?_
  refine Sfy_Reader_term_b5 hO hE hR _ _ _ ⟨none, rfl⟩ (fun v run hv a ha => by cases ha; exact hv) (fun q5 J5 => ?_)
  refine tq_aload_n dX9_term_62 rfl ?_
  exact tq_areturn dX9_term_63 rfl rfl rfl
abbrev Pfy_Reader_sum_b5 (G : ai_G) (d : Nat) (h0 : ai_H) (v0 : Nat) : (Nat × yS) ⊕ ((Nat × yS) ⊕ ((Nat ⊕ Nat) × yS)) → Option ai_R → Prop := Sum.elim (fun (q : Nat × yS) run => ∃ J : JV, run = ai_run G (d + 8) 81 5 [some (.ref v0), some (.ref q.1), J.1] [] (yH q.2 h0)) (Sum.elim (fun (q : Nat × yS) run => ∃ J : JV × JV, run = ai_run G (d + 8) 81 53 [J.1.1, some (.ref q.1), J.2.1] [] (yH q.2 h0)) (PtR h0))
theorem Bfy_Reader_sum_b5 {G : ai_G} {d : Nat} {h0 : ai_H} (hO : hOld G h0) (v0 : Nat) (b0 : Nat) (b1 : yS) (J : JV) : Tj G (d + 8) 81 (Pfy_Reader_sum_b5 G d h0 v0) (some (.inl (b0, b1))) 5 [some (.ref v0), some (.ref b0), J.1] [] (yH b1 h0) := tq_back J rfl rfl
theorem Efy_Reader_sum_b5 {G : ai_G} {d : Nat} {h0 : ai_H} (hO : hOld G h0) (v0 : Nat) (b0 : Nat) (b1 : yS) (J : JV × JV) : Tj G (d + 8) 81 (Pfy_Reader_sum_b5 G d h0 v0) (some (.inr (.inl (b0, b1)))) 53 [J.1.1, some (.ref b0), J.2.1] [] (yH b1 h0) := tq_exit2 J rfl rfl
theorem wfy_Reader_sum_j23 {G : ai_G} {d : Nat} {h0 : ai_H} (hO : hOld G h0) (j2 : JV) {rE rO : yS → Nat → Option ((Nat ⊕ Nat) × yS)} (hE : ∀ (s : yS) (v0 : Nat) r, rE s v0 = some r → PtR h0 r (ai_call G d 84 [.ref v0] (yH s h0))) (hR : ∀ (s : yS) (v0 : Nat) r, rO s v0 = some r → PtR h0 r (ai_call G d 82 [.ref v0] (yH s h0)))   (s : yS) (v0 : Nat) (v1 : Nat): Tj G (d + 8) 81 (Pfy_Reader_sum_b5 G d h0 v0) (fy_Reader_sum_j23 G rE rO s v0 v1) 23 [some (.ref v0), some (.ref v1), j2.1] [] (yH s h0) := by
  unfold fy_Reader_sum_j23
  refine tq_aload_n dX9_sum_23 rfl ?_
  refine tq_aload_n dX9_sum_24 rfl ?_
  refine ty_gI dX9_sum_25 rfl rfl (fun x25 => ?_)
  refine ty_v1_i dX9_sum_28 rfl rfl rfl (Nat.le_of_ble_eq_true rfl) (wfy_Reader_sign hO (d := d + 7) _ _ _) (fun p28 => ?_)
  refine tq_istore_n (L' := [_, _, _]) dX9_sum_31 (Nat.le_of_ble_eq_true rfl) rfl ?_
  refine tq_aload_n dX9_sum_32 rfl ?_
  refine ty_v0_V dX9_sum_33 rfl rfl rfl (Nat.le_of_ble_eq_true rfl) (wfy_Reader_next hO (d := d + 5) _ _) (fun p33 => ?_)
  refine ty_new dX9_sum_36 rfl (fun s36 => ?_)
  refine tq_dup dX9_sum_39 rfl ?_
  refine tq_iload_n dX9_sum_40 rfl ?_
  refine tq_aload_n dX9_sum_41 rfl ?_
  refine tq_aload_n dX9_sum_42 rfl ?_
  refine ty_v0_tR dX9_sum_43 rfl rfl rfl (Nat.le_of_ble_eq_true rfl) (by decide +kernel) rfl (fun b hb => acm (wfy_Reader_term hO hE hR _ _ b hb) 0) (fun _ _ a ha => by cases ha; rfl) (fun v43 p43 => ?_)
  refine ty_c3_V dX9_sum_46 rfl rfl rfl (Nat.le_of_ble_eq_true rfl) (wfy_Two_init hO (d := d + 6) _ _ _ _ _) (fun p46 => ?_)
  refine tq_astore_n (L' := [_, _, _]) dX9_sum_49 (Nat.le_of_ble_eq_true rfl) rfl ?_
  refine tq_goto dX9_sum_50 rfl ?_
  exact Bfy_Reader_sum_b5 hO _ _ _ ⟨some (.int p28), rfl⟩
theorem wfy_Reader_sum_b5 {G : ai_G} {d : Nat} {h0 : ai_H} (hO : hOld G h0) {rE rO : yS → Nat → Option ((Nat ⊕ Nat) × yS)} (hE : ∀ (s : yS) (v0 : Nat) r, rE s v0 = some r → PtR h0 r (ai_call G d 84 [.ref v0] (yH s h0))) (hR : ∀ (s : yS) (v0 : Nat) r, rO s v0 = some r → PtR h0 r (ai_call G d 82 [.ref v0] (yH s h0))) (v0 : Nat) (q : Nat × yS) (J : JV) : Tj G (d + 8) 81 (Pfy_Reader_sum_b5 G d h0 v0) (fy_Reader_sum_b5 G rE rO v0 q) 5 [some (.ref v0), some (.ref q.1), J.1] [] (yH q.2 h0) := by
  unfold fy_Reader_sum_b5
  refine tq_aload_n dX9_sum_5 rfl ?_
  refine tq_bipush (v := 43) dX9_sum_6 (by decide) ?_
  refine ty_v1_i dX9_sum_8 rfl rfl rfl (Nat.le_of_ble_eq_true rfl) (wfy_Reader_isSignHere hO (d := d + 6) _ _ _) (fun p8 => ?_)
  refine tq_if_ne dX9_sum_11 rfl ?_ ?_
  · exact wfy_Reader_sum_j23 hO J hE hR _ _ _
  · refine tq_aload_n dX9_sum_14 rfl ?_
    refine tq_bipush (v := 45) dX9_sum_15 (by decide) ?_
    refine ty_v1_i dX9_sum_17 rfl rfl rfl (Nat.le_of_ble_eq_true rfl) (wfy_Reader_isSignHere hO (d := d + 6) _ _ _) (fun p17 => ?_)
    refine tq_if_eq dX9_sum_20 rfl ?_ ?_
    · exact Efy_Reader_sum_b5 hO _ _ _ (⟨some (.ref v0), rfl⟩, J)
    · exact wfy_Reader_sum_j23 hO J hE hR _ _ _
theorem Sfy_Reader_sum_b5 {G : ai_G} {d : Nat} {h0 : ai_H} (hO : hOld G h0) {α : Type} {P : α → Option ai_R → Prop} {rE rO : yS → Nat → Option ((Nat ⊕ Nat) × yS)} (hE : ∀ (s : yS) (v0 : Nat) r, rE s v0 = some r → PtR h0 r (ai_call G d 84 [.ref v0] (yH s h0))) (hR : ∀ (s : yS) (v0 : Nat) r, rO s v0 = some r → PtR h0 r (ai_call G d 82 [.ref v0] (yH s h0))) (v0 : Nat) (b0 : Nat) (b1 : yS) (J : JV) {r : (Nat × yS) → Option α} {r2 : ((Nat ⊕ Nat) × yS) → Option α} (k2 : ∀ v run, (PtR h0) v run → ∀ a, r2 v = some a → P a run) (kk : ∀ (q : Nat × yS) (J : JV × JV), Tj G (d + 8) 81 P (r q) 53 [J.1.1, some (.ref q.1), J.2.1] [] (yH q.2 h0)) : Tj G (d + 8) 81 P ((lp (fy_Reader_sum_b5 G rE rO v0) (b0, b1)).bind (Sum.elim r r2)) 5 [some (.ref v0), some (.ref b0), J.1] [] (yH b1 h0) := tq_lp2 (J := J) (fun q J => wfy_Reader_sum_b5 hO hE hR v0 q J) rfl rfl k2 kk
theorem wfy_Reader_sum {G : ai_G} {d : Nat} {h0 : ai_H} (hO : hOld G h0) {rE rO : yS → Nat → Option ((Nat ⊕ Nat) × yS)} (hE : ∀ (s : yS) (v0 : Nat) r, rE s v0 = some r → PtR h0 r (ai_call G d 84 [.ref v0] (yH s h0))) (hR : ∀ (s : yS) (v0 : Nat) r, rO s v0 = some r → PtR h0 r (ai_call G d 82 [.ref v0] (yH s h0))) (s : yS) (v0 : Nat) : ∀ r, fy_Reader_sum G rE rO s v0 = some r → (PtR h0) r (ai_call G (d + 9) 81 [.ref v0] (yH s h0)) := by
  refine tq_meth (P := (PtR h0)) (d := (d + 8)) (Nat.le_of_ble_eq_true rfl) ?_
  show Tj G (d + 8) 81 (PtR h0) (fy_Reader_sum G rE rO s v0) 0 [some (.ref v0), none, none] [] (yH s h0)
  unfold fy_Reader_sum
  refine tq_aload_n dX9_sum_0 rfl ?_
  refine ty_v0_tR dX9_sum_1 rfl rfl rfl (Nat.le_of_ble_eq_true rfl) (by decide +kernel) rfl (fun b hb => acm (wfy_Reader_term hO hE hR _ _ b hb) 0) (fun _ _ a ha => by cases ha; rfl) (fun v1 p1 => ?_)
  refine tq_astore_n (L' := [_, _, _]) dX9_sum_4 (Nat.le_of_ble_eq_true rfl) rfl ?_
  refine Sfy_Reader_sum_b5 hO hE hR _ _ _ ⟨none, rfl⟩ (fun v run hv a ha => by cases ha; exact hv) (fun q5 J5 => ?_)
  refine tq_aload_n dX9_sum_53 rfl ?_
  exact tq_areturn dX9_sum_54 rfl rfl rfl
theorem wfy_Reader_one_j71 {G : ai_G} {d : Nat} {h0 : ai_H} (hO : hOld G h0) (j2 : JV) {rE rO : yS → Nat → Option ((Nat ⊕ Nat) × yS)} (hE : ∀ (s : yS) (v0 : Nat) r, rE s v0 = some r → PtR h0 r (ai_call G d 84 [.ref v0] (yH s h0))) (hR : ∀ (s : yS) (v0 : Nat) r, rO s v0 = some r → PtR h0 r (ai_call G d 82 [.ref v0] (yH s h0)))   (s : yS) (v0 : Nat) (v1 : Nat): Tj G (d + 9) 82 (PtR h0) (fy_Reader_one_j71 G rE rO s v0 v1) 71 [some (.ref v0), some (.ref v1), j2.1] [] (yH s h0) := by
  unfold fy_Reader_one_j71
  refine tq_aload_n dX9_one_71 rfl ?_
  refine tq_aload_n dX9_one_72 rfl ?_
  refine ty_gI dX9_one_73 rfl rfl (fun x73 => ?_)
  refine ty_v1_i dX9_one_76 rfl rfl rfl (Nat.le_of_ble_eq_true rfl) (wfy_Reader_sign hO (d := d + 8) _ _ _) (fun p76 => ?_)
  refine tq_istore_n (L' := [_, _, _]) dX9_one_79 (Nat.le_of_ble_eq_true rfl) rfl ?_
  refine tq_aload_n dX9_one_80 rfl ?_
  refine ty_v0_V dX9_one_81 rfl rfl rfl (Nat.le_of_ble_eq_true rfl) (wfy_Reader_next hO (d := d + 6) _ _) (fun p81 => ?_)
  refine ty_new dX9_one_84 rfl (fun s84 => ?_)
  refine tq_dup dX9_one_87 rfl ?_
  refine tq_iload_n dX9_one_88 rfl ?_
  refine tq_aload_n dX9_one_89 rfl ?_
  refine tq_aload_n dX9_one_90 rfl ?_
  refine ty_v0_tR dX9_one_91 rfl rfl rfl (Nat.le_of_ble_eq_true rfl) (by decide +kernel) rfl (fun b hb => acm (wfy_Reader_sum hO hE hR _ _ b hb) 0) (fun _ _ a ha => by cases ha; rfl) (fun v91 p91 => ?_)
  refine ty_c3_V dX9_one_94 rfl rfl rfl (Nat.le_of_ble_eq_true rfl) (wfy_Two_init hO (d := d + 7) _ _ _ _ _) (fun p94 => ?_)
  exact tq_areturn dX9_one_97 rfl rfl rfl
theorem wfy_Reader_one {G : ai_G} {d : Nat} {h0 : ai_H} (hO : hOld G h0) {rE rO : yS → Nat → Option ((Nat ⊕ Nat) × yS)} (hE : ∀ (s : yS) (v0 : Nat) r, rE s v0 = some r → PtR h0 r (ai_call G d 84 [.ref v0] (yH s h0))) (hR : ∀ (s : yS) (v0 : Nat) r, rO s v0 = some r → PtR h0 r (ai_call G d 82 [.ref v0] (yH s h0))) (s : yS) (v0 : Nat) : ∀ r, fy_Reader_one G rE rO s v0 = some r → (PtR h0) r (ai_call G (d + 10) 82 [.ref v0] (yH s h0)) := by
  refine tq_meth (P := (PtR h0)) (d := (d + 9)) (Nat.le_of_ble_eq_true rfl) ?_
  show Tj G (d + 9) 82 (PtR h0) (fy_Reader_one G rE rO s v0) 0 [some (.ref v0), none, none] [] (yH s h0)
  unfold fy_Reader_one
  refine tq_aload_n dX9_one_0 rfl ?_
  refine ty_ldc (k9 := 12) dX9_one_1 rfl (fun x1 => ?_)
  refine ty_v1_i dX9_one_3 rfl rfl rfl (Nat.le_of_ble_eq_true rfl) (wfy_Reader_isWord hO (d := d + 4) _ _ _) (fun p3 => ?_)
  refine tq_if_eq dX9_one_6 rfl ?_ ?_
  · refine tq_aload_n dX9_one_37 rfl ?_
    refine ty_v0_tR dX9_one_38 rfl rfl rfl (Nat.le_of_ble_eq_true rfl) (by decide +kernel) rfl (fun b hb => acm (wfy_Reader_sum hO hE hR _ _ b hb) 0) (fun _ _ a ha => by cases ha; rfl) (fun v38 p38 => ?_)
    refine tq_astore_n (L' := [_, _, _]) dX9_one_41 (Nat.le_of_ble_eq_true rfl) rfl ?_
    refine tq_aload_n dX9_one_42 rfl ?_
    refine tq_bipush (v := 60) dX9_one_43 (by decide) ?_
    refine ty_v1_i dX9_one_45 rfl rfl rfl (Nat.le_of_ble_eq_true rfl) (wfy_Reader_isSignHere hO (d := d + 7) _ _ _) (fun p45 => ?_)
    refine tq_if_ne dX9_one_48 rfl ?_ ?_
    · exact wfy_Reader_one_j71 hO ⟨none, rfl⟩ hE hR _ _ _
    · refine tq_aload_n dX9_one_51 rfl ?_
      refine tq_bipush (v := 62) dX9_one_52 (by decide) ?_
      refine ty_v1_i dX9_one_54 rfl rfl rfl (Nat.le_of_ble_eq_true rfl) (wfy_Reader_isSignHere hO (d := d + 7) _ _ _) (fun p54 => ?_)
      refine tq_if_ne dX9_one_57 rfl ?_ ?_
      · exact wfy_Reader_one_j71 hO ⟨none, rfl⟩ hE hR _ _ _
      · refine tq_aload_n dX9_one_60 rfl ?_
        refine tq_bipush (v := 61) dX9_one_61 (by decide) ?_
        refine ty_v1_i dX9_one_63 rfl rfl rfl (Nat.le_of_ble_eq_true rfl) (wfy_Reader_isSignHere hO (d := d + 7) _ _ _) (fun p63 => ?_)
        refine tq_if_ne dX9_one_66 rfl ?_ ?_
        · exact wfy_Reader_one_j71 hO ⟨none, rfl⟩ hE hR _ _ _
        · refine tq_aload_n dX9_one_69 rfl ?_
          exact tq_areturn dX9_one_70 rfl rfl rfl
  · refine tq_aload_n dX9_one_9 rfl ?_
    refine ty_v0_tV dX9_one_10 rfl rfl rfl (Nat.le_of_ble_eq_true rfl) (by decide +kernel) rfl (wfy_Reader_open hO (d := d + 5) _ _) (fun _ _ a ha => by cases ha; rfl) (fun _ p10 => ?_)
    refine ty_new dX9_one_13 rfl (fun s13 => ?_)
    refine tq_dup dX9_one_16 rfl ?_
    refine tq_aload_n dX9_one_17 rfl ?_
    refine ty_v0_tR dX9_one_18 rfl rfl rfl (Nat.le_of_ble_eq_true rfl) (by decide +kernel) rfl (fun b hb => acm (hR _ _ b hb) 9) (fun _ _ a ha => by cases ha; rfl) (fun v18 p18 => ?_)
    refine ty_c1_V dX9_one_21 rfl rfl rfl (Nat.le_of_ble_eq_true rfl) (wfy_Not_init hO (d := d + 7) _ _ _) (fun p21 => ?_)
    refine tq_astore_n (L' := [_, _, _]) dX9_one_24 (Nat.le_of_ble_eq_true rfl) rfl ?_
    refine tq_aload_n dX9_one_25 rfl ?_
    refine tq_dup dX9_one_26 rfl ?_
    refine ty_gI dX9_one_27 rfl rfl (fun x27 => ?_)
    refine tq_iconst (v := 1) dX9_one_30 (by decide) ?_
    refine tq_isub dX9_one_31 ?_
    refine ty_wI dX9_one_32 rfl rfl rfl (fun s32 => ?_)
    refine tq_aload_n dX9_one_35 rfl ?_
    exact tq_areturn dX9_one_36 rfl rfl rfl
abbrev Pfy_Reader_both_b5 (G : ai_G) (d : Nat) (h0 : ai_H) (v0 : Nat) : (Nat × yS) ⊕ ((Nat × yS) ⊕ ((Nat ⊕ Nat) × yS)) → Option ai_R → Prop := Sum.elim (fun (q : Nat × yS) run => ∃ J : Unit, run = ai_run G (d + 10) 83 5 [some (.ref v0), some (.ref q.1)] [] (yH q.2 h0)) (Sum.elim (fun (q : Nat × yS) run => ∃ J : JV, run = ai_run G (d + 10) 83 32 [J.1, some (.ref q.1)] [] (yH q.2 h0)) (PtR h0))
theorem Bfy_Reader_both_b5 {G : ai_G} {d : Nat} {h0 : ai_H} (hO : hOld G h0) (v0 : Nat) (b0 : Nat) (b1 : yS) (J : Unit) : Tj G (d + 10) 83 (Pfy_Reader_both_b5 G d h0 v0) (some (.inl (b0, b1))) 5 [some (.ref v0), some (.ref b0)] [] (yH b1 h0) := tq_back J rfl rfl
theorem Efy_Reader_both_b5 {G : ai_G} {d : Nat} {h0 : ai_H} (hO : hOld G h0) (v0 : Nat) (b0 : Nat) (b1 : yS) (J : JV) : Tj G (d + 10) 83 (Pfy_Reader_both_b5 G d h0 v0) (some (.inr (.inl (b0, b1)))) 32 [J.1, some (.ref b0)] [] (yH b1 h0) := tq_exit2 J rfl rfl
theorem wfy_Reader_both_b5 {G : ai_G} {d : Nat} {h0 : ai_H} (hO : hOld G h0) {rE rO : yS → Nat → Option ((Nat ⊕ Nat) × yS)} (hE : ∀ (s : yS) (v0 : Nat) r, rE s v0 = some r → PtR h0 r (ai_call G d 84 [.ref v0] (yH s h0))) (hR : ∀ (s : yS) (v0 : Nat) r, rO s v0 = some r → PtR h0 r (ai_call G d 82 [.ref v0] (yH s h0))) (v0 : Nat) (q : Nat × yS) (J : Unit) : Tj G (d + 10) 83 (Pfy_Reader_both_b5 G d h0 v0) (fy_Reader_both_b5 G rE rO v0 q) 5 [some (.ref v0), some (.ref q.1)] [] (yH q.2 h0) := by
  unfold fy_Reader_both_b5
  refine tq_aload_n dX9_both_5 rfl ?_
  refine ty_ldc (k9 := 13) dX9_both_6 rfl (fun x6 => ?_)
  refine ty_v1_I dX9_both_8 rfl rfl rfl (Nat.le_of_ble_eq_true rfl) (wfy_Reader_comes hO (d := d + 4) _ _ _) (fun p8 => ?_)
  refine tq_if_eq dX9_both_11 rfl ?_ ?_
  · exact Efy_Reader_both_b5 hO _ _ _ ⟨some (.ref v0), rfl⟩
  · refine ty_new dX9_both_14 rfl (fun s14 => ?_)
    refine tq_dup dX9_both_17 rfl ?_
    refine tq_bipush (v := 38) dX9_both_18 (by decide) ?_
    refine tq_aload_n dX9_both_20 rfl ?_
    refine tq_aload_n dX9_both_21 rfl ?_
    refine ty_v0_tR dX9_both_22 rfl rfl rfl (Nat.le_of_ble_eq_true rfl) (by decide +kernel) rfl (fun b hb => acm (wfy_Reader_one hO hE hR _ _ b hb) 0) (fun _ _ a ha => by cases ha; rfl) (fun v22 p22 => ?_)
    refine ty_c3_V dX9_both_25 rfl rfl rfl (Nat.le_of_ble_eq_true rfl) (wfy_Two_init hO (d := d + 8) _ _ _ _ _) (fun p25 => ?_)
    refine tq_astore_n (L' := [_, _]) dX9_both_28 (Nat.le_of_ble_eq_true rfl) rfl ?_
    refine tq_goto dX9_both_29 rfl ?_
    exact Bfy_Reader_both_b5 hO _ _ _ ()
theorem Sfy_Reader_both_b5 {G : ai_G} {d : Nat} {h0 : ai_H} (hO : hOld G h0) {α : Type} {P : α → Option ai_R → Prop} {rE rO : yS → Nat → Option ((Nat ⊕ Nat) × yS)} (hE : ∀ (s : yS) (v0 : Nat) r, rE s v0 = some r → PtR h0 r (ai_call G d 84 [.ref v0] (yH s h0))) (hR : ∀ (s : yS) (v0 : Nat) r, rO s v0 = some r → PtR h0 r (ai_call G d 82 [.ref v0] (yH s h0))) (v0 : Nat) (b0 : Nat) (b1 : yS) (J : Unit) {r : (Nat × yS) → Option α} {r2 : ((Nat ⊕ Nat) × yS) → Option α} (k2 : ∀ v run, (PtR h0) v run → ∀ a, r2 v = some a → P a run) (kk : ∀ (q : Nat × yS) (J : JV), Tj G (d + 10) 83 P (r q) 32 [J.1, some (.ref q.1)] [] (yH q.2 h0)) : Tj G (d + 10) 83 P ((lp (fy_Reader_both_b5 G rE rO v0) (b0, b1)).bind (Sum.elim r r2)) 5 [some (.ref v0), some (.ref b0)] [] (yH b1 h0) := tq_lp2 (J := J) (fun q J => wfy_Reader_both_b5 hO hE hR v0 q J) rfl rfl k2 kk
theorem wfy_Reader_both {G : ai_G} {d : Nat} {h0 : ai_H} (hO : hOld G h0) {rE rO : yS → Nat → Option ((Nat ⊕ Nat) × yS)} (hE : ∀ (s : yS) (v0 : Nat) r, rE s v0 = some r → PtR h0 r (ai_call G d 84 [.ref v0] (yH s h0))) (hR : ∀ (s : yS) (v0 : Nat) r, rO s v0 = some r → PtR h0 r (ai_call G d 82 [.ref v0] (yH s h0))) (s : yS) (v0 : Nat) : ∀ r, fy_Reader_both G rE rO s v0 = some r → (PtR h0) r (ai_call G (d + 11) 83 [.ref v0] (yH s h0)) := by
  refine tq_meth (P := (PtR h0)) (d := (d + 10)) (Nat.le_of_ble_eq_true rfl) ?_
  show Tj G (d + 10) 83 (PtR h0) (fy_Reader_both G rE rO s v0) 0 [some (.ref v0), none] [] (yH s h0)
  unfold fy_Reader_both
  refine tq_aload_n dX9_both_0 rfl ?_
  refine ty_v0_tR dX9_both_1 rfl rfl rfl (Nat.le_of_ble_eq_true rfl) (by decide +kernel) rfl (fun b hb => acm (wfy_Reader_one hO hE hR _ _ b hb) 0) (fun _ _ a ha => by cases ha; rfl) (fun v1 p1 => ?_)
  refine tq_astore_n (L' := [_, _]) dX9_both_4 (Nat.le_of_ble_eq_true rfl) rfl ?_
  refine Sfy_Reader_both_b5 hO hE hR _ _ _ () (fun v run hv a ha => by cases ha; exact hv) (fun q5 J5 => ?_)
  refine tq_aload_n dX9_both_32 rfl ?_
  exact tq_areturn dX9_both_33 rfl rfl rfl
abbrev Pfy_Reader_either_b5 (G : ai_G) (d : Nat) (h0 : ai_H) (v0 : Nat) : (Nat × yS) ⊕ ((Nat × yS) ⊕ ((Nat ⊕ Nat) × yS)) → Option ai_R → Prop := Sum.elim (fun (q : Nat × yS) run => ∃ J : Unit, run = ai_run G (d + 11) 84 5 [some (.ref v0), some (.ref q.1)] [] (yH q.2 h0)) (Sum.elim (fun (q : Nat × yS) run => ∃ J : JV, run = ai_run G (d + 11) 84 32 [J.1, some (.ref q.1)] [] (yH q.2 h0)) (PtR h0))
theorem Bfy_Reader_either_b5 {G : ai_G} {d : Nat} {h0 : ai_H} (hO : hOld G h0) (v0 : Nat) (b0 : Nat) (b1 : yS) (J : Unit) : Tj G (d + 11) 84 (Pfy_Reader_either_b5 G d h0 v0) (some (.inl (b0, b1))) 5 [some (.ref v0), some (.ref b0)] [] (yH b1 h0) := tq_back J rfl rfl
theorem Efy_Reader_either_b5 {G : ai_G} {d : Nat} {h0 : ai_H} (hO : hOld G h0) (v0 : Nat) (b0 : Nat) (b1 : yS) (J : JV) : Tj G (d + 11) 84 (Pfy_Reader_either_b5 G d h0 v0) (some (.inr (.inl (b0, b1)))) 32 [J.1, some (.ref b0)] [] (yH b1 h0) := tq_exit2 J rfl rfl
theorem wfy_Reader_either_b5 {G : ai_G} {d : Nat} {h0 : ai_H} (hO : hOld G h0) {rE rO : yS → Nat → Option ((Nat ⊕ Nat) × yS)} (hE : ∀ (s : yS) (v0 : Nat) r, rE s v0 = some r → PtR h0 r (ai_call G d 84 [.ref v0] (yH s h0))) (hR : ∀ (s : yS) (v0 : Nat) r, rO s v0 = some r → PtR h0 r (ai_call G d 82 [.ref v0] (yH s h0))) (v0 : Nat) (q : Nat × yS) (J : Unit) : Tj G (d + 11) 84 (Pfy_Reader_either_b5 G d h0 v0) (fy_Reader_either_b5 G rE rO v0 q) 5 [some (.ref v0), some (.ref q.1)] [] (yH q.2 h0) := by
  unfold fy_Reader_either_b5
  refine tq_aload_n dX9_either_5 rfl ?_
  refine ty_ldc (k9 := 14) dX9_either_6 rfl (fun x6 => ?_)
  refine ty_v1_I dX9_either_8 rfl rfl rfl (Nat.le_of_ble_eq_true rfl) (wfy_Reader_comes hO (d := d + 5) _ _ _) (fun p8 => ?_)
  refine tq_if_eq dX9_either_11 rfl ?_ ?_
  · exact Efy_Reader_either_b5 hO _ _ _ ⟨some (.ref v0), rfl⟩
  · refine ty_new dX9_either_14 rfl (fun s14 => ?_)
    refine tq_dup dX9_either_17 rfl ?_
    refine tq_bipush (v := 124) dX9_either_18 (by decide) ?_
    refine tq_aload_n dX9_either_20 rfl ?_
    refine tq_aload_n dX9_either_21 rfl ?_
    refine ty_v0_tR dX9_either_22 rfl rfl rfl (Nat.le_of_ble_eq_true rfl) (by decide +kernel) rfl (fun b hb => acm (wfy_Reader_both hO hE hR _ _ b hb) 0) (fun _ _ a ha => by cases ha; rfl) (fun v22 p22 => ?_)
    refine ty_c3_V dX9_either_25 rfl rfl rfl (Nat.le_of_ble_eq_true rfl) (wfy_Two_init hO (d := d + 9) _ _ _ _ _) (fun p25 => ?_)
    refine tq_astore_n (L' := [_, _]) dX9_either_28 (Nat.le_of_ble_eq_true rfl) rfl ?_
    refine tq_goto dX9_either_29 rfl ?_
    exact Bfy_Reader_either_b5 hO _ _ _ ()
theorem Sfy_Reader_either_b5 {G : ai_G} {d : Nat} {h0 : ai_H} (hO : hOld G h0) {α : Type} {P : α → Option ai_R → Prop} {rE rO : yS → Nat → Option ((Nat ⊕ Nat) × yS)} (hE : ∀ (s : yS) (v0 : Nat) r, rE s v0 = some r → PtR h0 r (ai_call G d 84 [.ref v0] (yH s h0))) (hR : ∀ (s : yS) (v0 : Nat) r, rO s v0 = some r → PtR h0 r (ai_call G d 82 [.ref v0] (yH s h0))) (v0 : Nat) (b0 : Nat) (b1 : yS) (J : Unit) {r : (Nat × yS) → Option α} {r2 : ((Nat ⊕ Nat) × yS) → Option α} (k2 : ∀ v run, (PtR h0) v run → ∀ a, r2 v = some a → P a run) (kk : ∀ (q : Nat × yS) (J : JV), Tj G (d + 11) 84 P (r q) 32 [J.1, some (.ref q.1)] [] (yH q.2 h0)) : Tj G (d + 11) 84 P ((lp (fy_Reader_either_b5 G rE rO v0) (b0, b1)).bind (Sum.elim r r2)) 5 [some (.ref v0), some (.ref b0)] [] (yH b1 h0) := tq_lp2 (J := J) (fun q J => wfy_Reader_either_b5 hO hE hR v0 q J) rfl rfl k2 kk
theorem wfy_Reader_either {G : ai_G} {d : Nat} {h0 : ai_H} (hO : hOld G h0) {rE rO : yS → Nat → Option ((Nat ⊕ Nat) × yS)} (hE : ∀ (s : yS) (v0 : Nat) r, rE s v0 = some r → PtR h0 r (ai_call G d 84 [.ref v0] (yH s h0))) (hR : ∀ (s : yS) (v0 : Nat) r, rO s v0 = some r → PtR h0 r (ai_call G d 82 [.ref v0] (yH s h0))) (s : yS) (v0 : Nat) : ∀ r, fy_Reader_either G rE rO s v0 = some r → (PtR h0) r (ai_call G (d + 12) 84 [.ref v0] (yH s h0)) := by
  refine tq_meth (P := (PtR h0)) (d := (d + 11)) (Nat.le_of_ble_eq_true rfl) ?_
  show Tj G (d + 11) 84 (PtR h0) (fy_Reader_either G rE rO s v0) 0 [some (.ref v0), none] [] (yH s h0)
  unfold fy_Reader_either
  refine tq_aload_n dX9_either_0 rfl ?_
  refine ty_v0_tR dX9_either_1 rfl rfl rfl (Nat.le_of_ble_eq_true rfl) (by decide +kernel) rfl (fun b hb => acm (wfy_Reader_both hO hE hR _ _ b hb) 0) (fun _ _ a ha => by cases ha; rfl) (fun v1 p1 => ?_)
  refine tq_astore_n (L' := [_, _]) dX9_either_4 (Nat.le_of_ble_eq_true rfl) rfl ?_
  refine Sfy_Reader_either_b5 hO hE hR _ _ _ () (fun v run hv a ha => by cases ha; exact hv) (fun q5 J5 => ?_)
  refine tq_aload_n dX9_either_32 rfl ?_
  exact tq_areturn dX9_either_33 rfl rfl rfl
theorem wfy_ei {G : ai_G} {d : Nat} {h0 : ai_H} (hO : hOld G h0) (n : Nat) : (∀ (s : yS) (v0 : Nat) r, (fy_ei G n).1 s v0 = some r → PtR h0 r (ai_call G (d + 12 * n) 84 [.ref v0] (yH s h0))) ∧ (∀ (s : yS) (v0 : Nat) r, (fy_ei G n).2 s v0 = some r → PtR h0 r (ai_call G (d + 12 * n) 82 [.ref v0] (yH s h0))) := by
  induction n with
  | zero => exact ⟨fun s v0 r h1 => (by cases h1), fun s v0 r h1 => (by cases h1)⟩
  | succ n ih => exact ⟨fun s v0 r h1 => wfy_Reader_either hO (d := d + 12 * n) ih.1 ih.2 s v0 r h1, fun s v0 r h1 => acm (wfy_Reader_one hO (d := d + 12 * n) ih.1 ih.2 s v0 r h1) 2⟩
theorem wfy_Reader_formula {G : ai_G} {d : Nat} {h0 : ai_H} (hO : hOld G h0) (s : yS) (v0 : Nat) : ∀ r, fy_Reader_formula G s v0 = some r → (PtR h0) r (ai_call G (d + 109) 85 [.ref v0] (yH s h0)) := by
  refine tq_meth (P := (PtR h0)) (d := (d + 108)) (Nat.le_of_ble_eq_true rfl) ?_
  show Tj G (d + 108) 85 (PtR h0) (fy_Reader_formula G s v0) 0 [some (.ref v0)] [] (yH s h0)
  unfold fy_Reader_formula
  refine tq_aload_n dX9_formula_0 rfl ?_
  refine tq_iconst (v := 0) dX9_formula_1 (by decide) ?_
  refine ty_wI dX9_formula_2 rfl rfl rfl (fun s2 => ?_)
  refine tq_aload_n dX9_formula_5 rfl ?_
  refine tq_iconst (v := 0) dX9_formula_6 (by decide) ?_
  refine ty_wI dX9_formula_7 rfl rfl rfl (fun s7 => ?_)
  refine tq_aload_n dX9_formula_10 rfl ?_
  refine ty_v0_tR dX9_formula_11 rfl rfl rfl (Nat.le_of_ble_eq_true rfl) (by decide +kernel) rfl (fun b hb => acm ((wfy_ei hO 9).1 _ _ b hb) 0) (fun _ _ a ha => by cases ha; rfl) (fun v11 p11 => ?_)
  exact tq_areturn dX9_formula_14 rfl rfl rfl
theorem wfy_Reader_line {G : ai_G} {d : Nat} {h0 : ai_H} (hO : hOld G h0) (s : yS) (v0 : Nat) : ∀ r, fy_Reader_line G s v0 = some r → (PtV h0) r (ai_call G (d + 110) 86 [.ref v0] (yH s h0)) := by
  refine tq_meth (P := (PtV h0)) (d := (d + 109)) (Nat.le_of_ble_eq_true rfl) ?_
  show Tj G (d + 109) 86 (PtV h0) (fy_Reader_line G s v0) 0 [some (.ref v0)] [] (yH s h0)
  unfold fy_Reader_line
  refine tq_aload_n dX9_line_0 rfl ?_
  refine ty_v0_i dX9_line_1 rfl rfl rfl (Nat.le_of_ble_eq_true rfl) (wfy_Reader_canLine hO (d := d + 103) _ _) (fun p1 => ?_)
  refine tq_if_ne dX9_line_4 rfl ?_ ?_
  · refine tq_aload_n dX9_line_12 rfl ?_
    refine ty_gR dX9_line_13 rfl rfl (fun x13 => ?_)
    refine tq_dup dX9_line_16 rfl ?_
    refine ty_gI dX9_line_17 rfl rfl (fun x17 => ?_)
    refine tq_iconst (v := 1) dX9_line_20 (by decide) ?_
    refine tq_iadd dX9_line_21 ?_
    refine ty_wI dX9_line_22 rfl rfl rfl (fun s22 => ?_)
    refine tq_aload_n dX9_line_25 rfl ?_
    refine ty_ldc_w (k9 := 0) dX9_line_26 rfl rfl (fun x26 => ?_)
    refine ty_v1_I dX9_line_29 rfl rfl rfl (Nat.le_of_ble_eq_true rfl) (wfy_Reader_comes hO (d := d + 103) _ _ _) (fun p29 => ?_)
    refine tq_if_eq dX9_line_32 rfl ?_ ?_
    · refine tq_aload_n dX9_line_69 rfl ?_
      refine ty_ldc_w (k9 := 1) dX9_line_70 rfl rfl (fun x70 => ?_)
      refine ty_v1_I dX9_line_73 rfl rfl rfl (Nat.le_of_ble_eq_true rfl) (wfy_Reader_comes hO (d := d + 103) _ _ _) (fun p73 => ?_)
      refine tq_if_eq dX9_line_76 rfl ?_ ?_
      · refine tq_aload_n dX9_line_86 rfl ?_
        refine ty_ldc_w (k9 := 2) dX9_line_87 rfl rfl (fun x87 => ?_)
        refine ty_v1_I dX9_line_90 rfl rfl rfl (Nat.le_of_ble_eq_true rfl) (wfy_Reader_comes hO (d := d + 103) _ _ _) (fun p90 => ?_)
        refine tq_if_eq dX9_line_93 rfl ?_ ?_
        · refine tq_aload_n dX9_line_103 rfl ?_
          refine ty_ldc_w (k9 := 3) dX9_line_104 rfl rfl (fun x104 => ?_)
          refine ty_v1_I dX9_line_107 rfl rfl rfl (Nat.le_of_ble_eq_true rfl) (wfy_Reader_comes hO (d := d + 103) _ _ _) (fun p107 => ?_)
          refine tq_if_eq dX9_line_110 rfl ?_ ?_
          · refine tq_aload_n dX9_line_120 rfl ?_
            refine ty_ldc_w (k9 := 4) dX9_line_121 rfl rfl (fun x121 => ?_)
            refine ty_v1_I dX9_line_124 rfl rfl rfl (Nat.le_of_ble_eq_true rfl) (wfy_Reader_comes hO (d := d + 103) _ _ _) (fun p124 => ?_)
            refine tq_if_eq dX9_line_127 rfl ?_ ?_
            · refine tq_aload_n dX9_line_137 rfl ?_
              refine ty_ldc_w (k9 := 5) dX9_line_138 rfl rfl (fun x138 => ?_)
              refine ty_v1_I dX9_line_141 rfl rfl rfl (Nat.le_of_ble_eq_true rfl) (wfy_Reader_comes hO (d := d + 103) _ _ _) (fun p141 => ?_)
              refine tq_if_eq dX9_line_144 rfl ?_ ?_
              · refine tq_aload_n dX9_line_161 rfl ?_
                refine ty_ldc_w (k9 := 6) dX9_line_162 rfl rfl (fun x162 => ?_)
                refine ty_v1_I dX9_line_165 rfl rfl rfl (Nat.le_of_ble_eq_true rfl) (wfy_Reader_comes hO (d := d + 103) _ _ _) (fun p165 => ?_)
                refine tq_if_eq dX9_line_168 rfl ?_ ?_
                · refine tq_aload_n dX9_line_196 rfl ?_
                  refine ty_v0_V dX9_line_197 rfl rfl rfl (Nat.le_of_ble_eq_true rfl) (wfy_Reader_next hO (d := d + 106) _ _) (fun p197 => ?_)
                  refine tq_aload_n dX9_line_200 rfl ?_
                  refine ty_gR dX9_line_201 rfl rfl (fun x201 => ?_)
                  refine tq_iconst (v := 1) dX9_line_204 (by decide) ?_
                  refine ty_wZ dX9_line_205 rfl rfl rfl (fun s205 => ?_)
                  refine tq_aload_n dX9_line_208 rfl ?_
                  refine ty_gR dX9_line_209 rfl rfl (fun x209 => ?_)
                  refine tq_aload_n dX9_line_212 rfl ?_
                  refine tq_iconst (v := 0) dX9_line_213 (by decide) ?_
                  refine tq_sipush (v := 999) dX9_line_214 (by decide) ?_
                  refine ty_v2_tI dX9_line_217 rfl rfl rfl (Nat.le_of_ble_eq_true rfl) (by decide +kernel) rfl (wfy_Reader_number hO (d := d + 105) _ _ _ _) (fun _ _ a ha => by cases ha; rfl) (fun v217 p217 => ?_)
                  refine ty_wI dX9_line_220 rfl rfl rfl (fun s220 => ?_)
                  exact tq_return dX9_line_223 rfl rfl
                · refine tq_aload_n dX9_line_171 rfl ?_
                  refine ty_gR dX9_line_172 rfl rfl (fun x172 => ?_)
                  refine tq_iconst (v := 1) dX9_line_175 (by decide) ?_
                  refine ty_wZ dX9_line_176 rfl rfl rfl (fun s176 => ?_)
                  refine tq_aload_n dX9_line_179 rfl ?_
                  refine ty_gR dX9_line_180 rfl rfl (fun x180 => ?_)
                  refine tq_aload_n dX9_line_183 rfl ?_
                  refine tq_iconst (v := 0) dX9_line_184 (by decide) ?_
                  refine tq_bipush (v := 100) dX9_line_185 (by decide) ?_
                  refine ty_v2_tI dX9_line_187 rfl rfl rfl (Nat.le_of_ble_eq_true rfl) (by decide +kernel) rfl (wfy_Reader_number hO (d := d + 105) _ _ _ _) (fun _ _ a ha => by cases ha; rfl) (fun v187 p187 => ?_)
                  refine ty_wI dX9_line_190 rfl rfl rfl (fun s190 => ?_)
                  refine tq_goto dX9_line_193 rfl ?_
                  exact tq_return dX9_line_223 rfl rfl
              · refine tq_aload_n dX9_line_147 rfl ?_
                refine ty_gR dX9_line_148 rfl rfl (fun x148 => ?_)
                refine tq_aload_n dX9_line_151 rfl ?_
                refine ty_v0_tR dX9_line_152 rfl rfl rfl (Nat.le_of_ble_eq_true rfl) (by decide +kernel) rfl (wfy_Reader_formula hO (d := d) _ _) (fun _ _ a ha => by cases ha; rfl) (fun v152 p152 => ?_)
                refine ty_wRr dX9_line_155 rfl rfl rfl (fun s155 => ?_)
                refine tq_goto dX9_line_158 rfl ?_
                exact tq_return dX9_line_223 rfl rfl
            · refine tq_aload_n dX9_line_130 rfl ?_
              refine ty_v0_tV dX9_line_131 rfl rfl rfl (Nat.le_of_ble_eq_true rfl) (by decide +kernel) rfl (wfy_Reader_load hO (d := d + 101) _ _) (fun _ _ a ha => by cases ha; rfl) (fun _ p131 => ?_)
              refine tq_goto dX9_line_134 rfl ?_
              exact tq_return dX9_line_223 rfl rfl
          · refine tq_aload_n dX9_line_113 rfl ?_
            refine ty_v0_tV dX9_line_114 rfl rfl rfl (Nat.le_of_ble_eq_true rfl) (by decide +kernel) rfl (wfy_Reader_board hO (d := d + 101) _ _) (fun _ _ a ha => by cases ha; rfl) (fun _ p114 => ?_)
            refine tq_goto dX9_line_117 rfl ?_
            exact tq_return dX9_line_223 rfl rfl
        · refine tq_aload_n dX9_line_96 rfl ?_
          refine ty_v0_tV dX9_line_97 rfl rfl rfl (Nat.le_of_ble_eq_true rfl) (by decide +kernel) rfl (wfy_Reader_iron hO (d := d + 103) _ _) (fun _ _ a ha => by cases ha; rfl) (fun _ p97 => ?_)
          refine tq_goto dX9_line_100 rfl ?_
          exact tq_return dX9_line_223 rfl rfl
      · refine tq_aload_n dX9_line_79 rfl ?_
        refine ty_v0_tV dX9_line_80 rfl rfl rfl (Nat.le_of_ble_eq_true rfl) (by decide +kernel) rfl (wfy_Reader_current hO (d := d + 103) _ _) (fun _ _ a ha => by cases ha; rfl) (fun _ p80 => ?_)
        refine tq_goto dX9_line_83 rfl ?_
        exact tq_return dX9_line_223 rfl rfl
    · refine tq_aload_n dX9_line_35 rfl ?_
      refine ty_gR dX9_line_36 rfl rfl (fun x36 => ?_)
      refine tq_aload_n dX9_line_39 rfl ?_
      refine tq_iconst (v := 1) dX9_line_40 (by decide) ?_
      refine tq_bipush (v := 8) dX9_line_41 (by decide) ?_
      refine ty_v2_tI dX9_line_43 rfl rfl rfl (Nat.le_of_ble_eq_true rfl) (by decide +kernel) rfl (wfy_Reader_number hO (d := d + 105) _ _ _ _) (fun _ _ a ha => by cases ha; rfl) (fun v43 p43 => ?_)
      refine ty_wI dX9_line_46 rfl rfl rfl (fun s46 => ?_)
      refine tq_aload_n dX9_line_49 rfl ?_
      refine ty_gR dX9_line_50 rfl rfl (fun x50 => ?_)
      refine tq_aload_n dX9_line_53 rfl ?_
      refine ty_ldc_w (k9 := 8) dX9_line_54 rfl rfl (fun x54 => ?_)
      refine tq_iconst (v := 1) dX9_line_57 (by decide) ?_
      refine tq_bipush (v := 6) dX9_line_58 (by decide) ?_
      refine ty_v3_tI dX9_line_60 rfl rfl rfl (Nat.le_of_ble_eq_true rfl) (by decide +kernel) rfl (wfy_Reader_after hO (d := d + 103) _ _ _ _ _) (fun _ _ a ha => by cases ha; rfl) (fun v60 p60 => ?_)
      refine ty_wI dX9_line_63 rfl rfl rfl (fun s63 => ?_)
      refine tq_goto dX9_line_66 rfl ?_
      exact tq_return dX9_line_223 rfl rfl
  · refine tq_aload_n dX9_line_7 rfl ?_
    refine ty_v0_R dX9_line_8 rfl rfl rfl (Nat.le_of_ble_eq_true rfl) (wfy_Reader_wrong hO (d := d + 107) _ _) (fun p8 => ?_)
    exact tq_athrow dX9_line_11 rfl (by decide +kernel) (fun _ a ha => by cases ha; rfl)
abbrev Pfy_Reader_read_b4 (G : ai_G) (d : Nat) (h0 : ai_H) (v0 : Nat) : yS ⊕ (yS ⊕ ((Nat ⊕ Nat) × yS)) → Option ai_R → Prop := Sum.elim (fun (q : yS) run => ∃ J : Unit, run = ai_run G (d + 110) 87 4 [some (.ref v0)] [] (yH q h0)) (Sum.elim (fun (q : yS) run => ∃ J : Unit, run = ai_run G (d + 110) 87 28 [some (.ref v0)] [] (yH q h0)) (PtR h0))
theorem Bfy_Reader_read_b4 {G : ai_G} {d : Nat} {h0 : ai_H} (hO : hOld G h0) (v0 : Nat) (b0 : yS) (J : Unit) : Tj G (d + 110) 87 (Pfy_Reader_read_b4 G d h0 v0) (some (.inl b0)) 4 [some (.ref v0)] [] (yH b0 h0) := tq_back J rfl rfl
theorem Efy_Reader_read_b4 {G : ai_G} {d : Nat} {h0 : ai_H} (hO : hOld G h0) (v0 : Nat) (b0 : yS) (J : Unit) : Tj G (d + 110) 87 (Pfy_Reader_read_b4 G d h0 v0) (some (.inr (.inl b0))) 28 [some (.ref v0)] [] (yH b0 h0) := tq_exit2 J rfl rfl
theorem wfy_Reader_read_b4 {G : ai_G} {d : Nat} {h0 : ai_H} (hO : hOld G h0) (v0 : Nat) (q : yS) (J : Unit) : Tj G (d + 110) 87 (Pfy_Reader_read_b4 G d h0 v0) (fy_Reader_read_b4 G v0 q) 4 [some (.ref v0)] [] (yH q h0) := by
  unfold fy_Reader_read_b4
  refine tq_aload_n dX9_read_4 rfl ?_
  refine ty_gI dX9_read_5 rfl rfl (fun x5 => ?_)
  refine tq_if_eq dX9_read_8 rfl ?_ ?_
  · exact Efy_Reader_read_b4 hO _ _ ()
  · refine tq_aload_n dX9_read_11 rfl ?_
    refine ty_v0_tV dX9_read_12 rfl rfl rfl (Nat.le_of_ble_eq_true rfl) (by decide +kernel) rfl (wfy_Reader_line hO (d := d) _ _) (fun _ _ a ha => by cases ha; rfl) (fun _ p12 => ?_)
    refine tq_aload_n dX9_read_15 rfl ?_
    refine tq_aload_n dX9_read_16 rfl ?_
    refine tq_bipush (v := 59) dX9_read_17 (by decide) ?_
    refine ty_v1_i dX9_read_19 rfl rfl rfl (Nat.le_of_ble_eq_true rfl) (wfy_Reader_isSignHere hO (d := d + 108) _ _ _) (fun p19 => ?_)
    refine ty_v1_tV dX9_read_22 rfl rfl rfl (Nat.le_of_ble_eq_true rfl) (by decide +kernel) rfl (wfy_Reader_must hO (d := d + 106) _ _ _) (fun _ _ a ha => by cases ha; rfl) (fun _ p22 => ?_)
    refine tq_goto dX9_read_25 rfl ?_
    exact Bfy_Reader_read_b4 hO _ _ ()
theorem Sfy_Reader_read_b4 {G : ai_G} {d : Nat} {h0 : ai_H} (hO : hOld G h0) {α : Type} {P : α → Option ai_R → Prop} (v0 : Nat) (b0 : yS) (J : Unit) {r : yS → Option α} {r2 : ((Nat ⊕ Nat) × yS) → Option α} (k2 : ∀ v run, (PtR h0) v run → ∀ a, r2 v = some a → P a run) (kk : ∀ (q : yS) (J : Unit), Tj G (d + 110) 87 P (r q) 28 [some (.ref v0)] [] (yH q h0)) : Tj G (d + 110) 87 P ((lp (fy_Reader_read_b4 G v0) b0).bind (Sum.elim r r2)) 4 [some (.ref v0)] [] (yH b0 h0) := tq_lp2 (J := J) (fun q J => wfy_Reader_read_b4 hO v0 q J) rfl rfl k2 kk
theorem wfy_Reader_read {G : ai_G} {d : Nat} {h0 : ai_H} (hO : hOld G h0) (s : yS) (v0 : Nat) : ∀ r, fy_Reader_read G s v0 = some r → (PtR h0) r (ai_call G (d + 111) 87 [.ref v0] (yH s h0)) := by
  refine tq_meth (P := (PtR h0)) (d := (d + 110)) (Nat.le_of_ble_eq_true rfl) ?_
  show Tj G (d + 110) 87 (PtR h0) (fy_Reader_read G s v0) 0 [some (.ref v0)] [] (yH s h0)
  unfold fy_Reader_read
  refine tq_aload_n dX9_read_0 rfl ?_
  refine ty_v0_V dX9_read_1 rfl rfl rfl (Nat.le_of_ble_eq_true rfl) (wfy_Reader_next hO (d := d + 107) _ _) (fun p1 => ?_)
  refine Sfy_Reader_read_b4 hO _ _ () (fun v run hv a ha => by cases ha; exact hv) (fun q4 J4 => ?_)
  refine tq_aload_n dX9_read_28 rfl ?_
  refine ty_gR dX9_read_29 rfl rfl (fun x29 => ?_)
  exact tq_areturn dX9_read_32 rfl rfl rfl
theorem wfy_B_boards {G : ai_G} {d : Nat} {h0 : ai_H} (hO : hOld G h0) (s : yS) (v0 : Nat) : ∀ r, fy_B_boards G s v0 = some r → (Pi (yH s h0)) r (ai_call G (d + 2) 88 [.ref v0] (yH s h0)) := by
  refine tq_meth (P := (Pi (yH s h0))) (d := (d + 1)) (Nat.le_of_ble_eq_true rfl) ?_
  show Tj G (d + 1) 88 (Pi (yH s h0)) (fy_B_boards G s v0) 0 [some (.ref v0)] [] (yH s h0)
  unfold fy_B_boards
  refine tq_aload_n dX0_boards_0 rfl ?_
  refine ty_gR dX0_boards_1 rfl rfl (fun x1 => ?_)
  refine ty_gR dX0_boards_4 rfl rfl (fun x4 => ?_)
  refine ty_v0_i dX0_boards_7 rfl rfl rfl (Nat.le_of_ble_eq_true rfl) (wfy_List_size hO (d := d) _ _) (fun p7 => ?_)
  exact tq_ireturn dX0_boards_10 rfl rfl
theorem wfy_B_river {G : ai_G} {d : Nat} {h0 : ai_H} (hO : hOld G h0) (s : yS) (v0 : Nat) : ∀ r, fy_B_river G s v0 = some r → (PyI h0) r (ai_call G (d + 112) 89 [.ref v0] (yH s h0)) := by
  refine tq_meth (P := (PyI h0)) (d := (d + 111)) (Nat.le_of_ble_eq_true rfl) ?_
  show Tj G (d + 111) 89 (PyI h0) (fy_B_river G s v0) 0 [some (.ref v0), none, none] [] (yH s h0)
  unfold fy_B_river
  refine tq_aload_n dX0_river_0 rfl ?_
  refine ty_gI dX0_river_1 rfl rfl (fun x1 => ?_)
  refine tq_istore_n (L' := [_, _, _]) dX0_river_4 (Nat.le_of_ble_eq_true rfl) rfl ?_
  refine tq_aload_n dX0_river_5 rfl ?_
  refine tq_iconst (v := 0) dX0_river_6 (by decide) ?_
  refine ty_wI dX0_river_7 rfl rfl rfl (fun s7 => ?_)
  refine tq_aload_n dX0_river_10 rfl ?_
  refine tq_iconst (v := 0) dX0_river_11 (by decide) ?_
  refine ty_wI dX0_river_12 rfl rfl rfl (fun s12 => ?_)
  refine tq_aload_n dX0_river_15 rfl ?_
  refine tq_iconst (v := (-1)) dX0_river_16 (by decide) ?_
  refine ty_wI dX0_river_17 rfl rfl rfl (fun s17 => ?_)
  refine tq_aload_n dX0_river_20 rfl ?_
  refine ty_new dX0_river_21 rfl (fun s21 => ?_)
  refine tq_dup dX0_river_24 rfl ?_
  refine tq_aload_n dX0_river_25 rfl ?_
  refine ty_gR dX0_river_26 rfl rfl (fun x26 => ?_)
  refine tq_iload_n dX0_river_29 rfl ?_
  refine tq_aload_n dX0_river_30 rfl ?_
  refine ty_gR dX0_river_31 rfl rfl (fun x31 => ?_)
  refine ty_c3_V dX0_river_34 rfl rfl rfl (Nat.le_of_ble_eq_true rfl) (wfy_Reader_init hO (d := d + 106) _ _ _ _ _) (fun p34 => ?_)
  refine ty_v0_kR dX0_river_37 rfl rfl rfl (Nat.le_of_ble_eq_true rfl) (by decide +kernel) rfl (wfy_Reader_read hO (d := d) _ _) (fun q37 p37 => ?_) (fun v37 p37 => ?_)
  · refine tq_astore_n (L' := [_, _, _]) dX0_river_46 (Nat.le_of_ble_eq_true rfl) rfl ?_
    refine tq_aload_n dX0_river_47 rfl ?_
    refine tq_aload_n dX0_river_48 rfl ?_
    refine ty_gI dX0_river_49 rfl rfl (fun x49 => ?_)
    refine ty_wI dX0_river_52 rfl rfl rfl (fun s52 => ?_)
    refine tq_aload_n dX0_river_55 rfl ?_
    refine tq_aload_n dX0_river_56 rfl ?_
    refine ty_gI dX0_river_57 rfl rfl (fun x57 => ?_)
    refine ty_wI dX0_river_60 rfl rfl rfl (fun s60 => ?_)
    refine tq_iconst (v := (-1)) dX0_river_63 (by decide) ?_
    exact tq_ireturn dX0_river_64 rfl rfl
  · refine ty_wRr dX0_river_40 rfl rfl rfl (fun s40 => ?_)
    refine tq_goto dX0_river_43 rfl ?_
    refine tq_aload_n dX0_river_65 rfl ?_
    refine ty_v0_V dX0_river_66 rfl rfl rfl (Nat.le_of_ble_eq_true rfl) (wfy_B_start hO (d := d + 106) _ _) (fun p66 => ?_)
    refine tq_aload_n dX0_river_69 rfl ?_
    refine ty_v0_i dX0_river_70 rfl rfl rfl (Nat.le_of_ble_eq_true rfl) (wfy_B_boards hO (d := d + 109) _ _) (fun p70 => ?_)
    exact tq_ireturn dX0_river_73 rfl rfl
theorem wfy_B_fault {G : ai_G} {d : Nat} {h0 : ai_H} (hO : hOld G h0) (s : yS) (v0 : Nat) (v1 : Int32) : ∀ r, fy_B_fault G s v0 v1 = some r → (Pi (yH s h0)) r (ai_call G (d + 1) 125 [.ref v0, .int v1] (yH s h0)) := by
  refine tq_meth (P := (Pi (yH s h0))) (d := d) (Nat.le_of_ble_eq_true rfl) ?_
  show Tj G d 125 (Pi (yH s h0)) (fy_B_fault G s v0 v1) 0 [some (.ref v0), some (.int v1)] [] (yH s h0)
  unfold fy_B_fault
  refine tq_iload_n dX0_fault_0 rfl ?_
  refine tq_if_ne dX0_fault_1 rfl ?_ ?_
  · refine tq_iload_n dX0_fault_11 rfl ?_
    refine tq_iconst (v := 1) dX0_fault_12 (by decide) ?_
    refine tq_icmp_ne dX0_fault_13 rfl ?_ ?_
    · refine tq_iconst (v := (-1)) dX0_fault_23 (by decide) ?_
      exact tq_ireturn dX0_fault_24 rfl rfl
    · refine tq_aload_n dX0_fault_16 rfl ?_
      refine ty_gI dX0_fault_17 rfl rfl (fun x17 => ?_)
      refine tq_goto dX0_fault_20 rfl ?_
      exact tq_ireturn dX0_fault_24 rfl rfl
  · refine tq_aload_n dX0_fault_4 rfl ?_
    refine ty_gI dX0_fault_5 rfl rfl (fun x5 => ?_)
    refine tq_goto dX0_fault_8 rfl ?_
    exact tq_ireturn dX0_fault_24 rfl rfl
theorem wfy_B_isIn {G : ai_G} {d : Nat} {h : ai_H} (v0 : Int32) (v1 : Int32) (v2 : Int32) : ∀ r, fy_B_isIn v0 v1 v2 = some r → (Pi h) r (ai_call G (d + 1) 127 [.int v0, .int v1, .int v2] h) := by
  refine tq_meth (P := (Pi h)) (d := d) (Nat.le_of_ble_eq_true rfl) ?_
  show Tj G d 127 (Pi h) (fy_B_isIn v0 v1 v2) 0 [some (.int v0), some (.int v1), some (.int v2)] [] h
  unfold fy_B_isIn
  refine tq_iload_n dX0_isIn_0 rfl ?_
  refine tq_iload_n dX0_isIn_1 rfl ?_
  refine tq_icmp_lt dX0_isIn_2 rfl ?_ ?_
  · refine tq_iconst (v := 0) dX0_isIn_14 (by decide) ?_
    exact tq_ireturn dX0_isIn_15 (by decide) rfl
  · refine tq_iload_n dX0_isIn_5 rfl ?_
    refine tq_iload_n dX0_isIn_6 rfl ?_
    refine tq_icmp_gt dX0_isIn_7 rfl ?_ ?_
    · refine tq_iconst (v := 0) dX0_isIn_14 (by decide) ?_
      exact tq_ireturn dX0_isIn_15 (by decide) rfl
    · refine tq_iconst (v := 1) dX0_isIn_10 (by decide) ?_
      refine tq_goto dX0_isIn_11 rfl ?_
      exact tq_ireturn dX0_isIn_15 (by decide) rfl
theorem wfy_B_isBoard {G : ai_G} {d : Nat} {h0 : ai_H} (hO : hOld G h0) (s : yS) (v0 : Nat) (v1 : Int32) : ∀ r, fy_B_isBoard G s v0 v1 = some r → (Pi (yH s h0)) r (ai_call G (d + 3) 128 [.ref v0, .int v1] (yH s h0)) := by
  refine tq_meth (P := (Pi (yH s h0))) (d := (d + 2)) (Nat.le_of_ble_eq_true rfl) ?_
  show Tj G (d + 2) 128 (Pi (yH s h0)) (fy_B_isBoard G s v0 v1) 0 [some (.ref v0), some (.int v1)] [] (yH s h0)
  unfold fy_B_isBoard
  refine tq_iload_n dX0_isBoard_0 rfl ?_
  refine tq_iconst (v := 0) dX0_isBoard_1 (by decide) ?_
  refine tq_aload_n dX0_isBoard_2 rfl ?_
  refine ty_v0_i dX0_isBoard_3 rfl rfl rfl (Nat.le_of_ble_eq_true rfl) (wfy_B_boards hO (d := d) _ _) (fun p3 => ?_)
  refine tq_iconst (v := 1) dX0_isBoard_6 (by decide) ?_
  refine tq_isub dX0_isBoard_7 ?_
  refine ty_s3_pi dX0_isBoard_8 rfl rfl rfl (Nat.le_of_ble_eq_true rfl) (wfy_B_isIn (d := d + 1) _ _ _) (fun p8 => ?_)
  exact tq_iretB dX0_isBoard_11 rfl rfl rfl
abbrev Pfy_State_loadsAt_b5 (G : ai_G) (d : Nat) (h0 : ai_H) (s : yS) (v0 : Nat) (v1 : Nat) (v2 : Int32) : (Int32 × Int32) ⊕ Int32 → Option ai_R → Prop := Sum.elim (fun (q : Int32 × Int32) run => ∃ J : Unit, run = ai_run G (d + 1) 129 5 [some (.ref v0), some (.ref v1), some (.int v2), some (.int q.1), some (.int q.2)] [] (yH s h0)) (fun (q : Int32) run => ∃ J : JV × JV × JV × JV, run = ai_run G (d + 1) 129 41 [J.1.1, J.2.1.1, J.2.2.1.1, some (.int q), J.2.2.2.1] [] (yH s h0))
theorem Bfy_State_loadsAt_b5 {G : ai_G} {d : Nat} {h0 : ai_H} (hO : hOld G h0) (s : yS) (v0 : Nat) (v1 : Nat) (v2 : Int32) (b0 : Int32) (b1 : Int32) (J : Unit) : Tj G (d + 1) 129 (Pfy_State_loadsAt_b5 G d h0 s v0 v1 v2) (some (.inl (b0, b1))) 5 [some (.ref v0), some (.ref v1), some (.int v2), some (.int b0), some (.int b1)] [] (yH s h0) := tq_back J rfl rfl
theorem Efy_State_loadsAt_b5 {G : ai_G} {d : Nat} {h0 : ai_H} (hO : hOld G h0) (s : yS) (v0 : Nat) (v1 : Nat) (v2 : Int32) (b0 : Int32) (J : JV × JV × JV × JV) : Tj G (d + 1) 129 (Pfy_State_loadsAt_b5 G d h0 s v0 v1 v2) (some (.inr b0)) 41 [J.1.1, J.2.1.1, J.2.2.1.1, some (.int b0), J.2.2.2.1] [] (yH s h0) := tq_exit J rfl rfl
theorem wfy_State_loadsAt_b5 {G : ai_G} {d : Nat} {h0 : ai_H} (hO : hOld G h0) (s : yS) (v0 : Nat) (v1 : Nat) (v2 : Int32) (q : Int32 × Int32) (J : Unit) : Tj G (d + 1) 129 (Pfy_State_loadsAt_b5 G d h0 s v0 v1 v2) (fy_State_loadsAt_b5 G s v0 v1 v2 q) 5 [some (.ref v0), some (.ref v1), some (.int v2), some (.int q.1), some (.int q.2)] [] (yH s h0) := by
  unfold fy_State_loadsAt_b5
  refine tq_iload dX2_loadsAt_5 rfl ?_
  refine tq_aload_n dX2_loadsAt_7 rfl ?_
  refine ty_gR dX2_loadsAt_8 rfl rfl (fun x8 => ?_)
  refine ty_v0_i dX2_loadsAt_11 rfl rfl rfl (Nat.le_of_ble_eq_true rfl) (wfy_List_size hO (d := d) _ _) (fun p11 => ?_)
  refine tq_icmp_ge dX2_loadsAt_14 rfl ?_ ?_
  · exact Efy_State_loadsAt_b5 hO _ _ _ _ _ (⟨some (.ref v0), rfl⟩, ⟨some (.ref v1), rfl⟩, ⟨some (.int v2), rfl⟩, ⟨some (.int q.2), rfl⟩)
  · refine tq_aload_n dX2_loadsAt_17 rfl ?_
    refine ty_gR dX2_loadsAt_18 rfl rfl (fun x18 => ?_)
    refine tq_iload dX2_loadsAt_21 rfl ?_
    refine ty_iald dX2_loadsAt_23 (fun x23 => ?_)
    refine tq_iload_n dX2_loadsAt_24 rfl ?_
    refine tq_icmp_ne dX2_loadsAt_25 rfl ?_ ?_
    · refine tq_iinc (v := (q.2 + 1)) (L' := [_, _, _, _, _]) dX2_loadsAt_35 rfl (Nat.le_of_ble_eq_true rfl) rfl rfl ?_
      refine tq_goto dX2_loadsAt_38 rfl ?_
      exact Bfy_State_loadsAt_b5 hO _ _ _ _ _ _ ()
    · refine tq_iload_n dX2_loadsAt_28 rfl ?_
      refine tq_iconst (v := 1) dX2_loadsAt_29 (by decide) ?_
      refine tq_iload dX2_loadsAt_30 rfl ?_
      refine tq_ishl dX2_loadsAt_32 ?_
      refine tq_ior dX2_loadsAt_33 ?_
      refine tq_istore_n (L' := [_, _, _, _, _]) dX2_loadsAt_34 (Nat.le_of_ble_eq_true rfl) rfl ?_
      refine tq_iinc (v := (q.2 + 1)) (L' := [_, _, _, _, _]) dX2_loadsAt_35 rfl (Nat.le_of_ble_eq_true rfl) rfl rfl ?_
      refine tq_goto dX2_loadsAt_38 rfl ?_
      exact Bfy_State_loadsAt_b5 hO _ _ _ _ _ _ ()
theorem Sfy_State_loadsAt_b5 {G : ai_G} {d : Nat} {h0 : ai_H} (hO : hOld G h0) {α : Type} {P : α → Option ai_R → Prop} (s : yS) (v0 : Nat) (v1 : Nat) (v2 : Int32) (b0 : Int32) (b1 : Int32) (J : Unit) {r : Int32 → Option α} (kk : ∀ (q : Int32) (J : JV × JV × JV × JV), Tj G (d + 1) 129 P (r q) 41 [J.1.1, J.2.1.1, J.2.2.1.1, some (.int q), J.2.2.2.1] [] (yH s h0)) : Tj G (d + 1) 129 P ((lp (fy_State_loadsAt_b5 G s v0 v1 v2) (b0, b1)).bind r) 5 [some (.ref v0), some (.ref v1), some (.int v2), some (.int b0), some (.int b1)] [] (yH s h0) := tq_lp1 (J := J) (fun q J => wfy_State_loadsAt_b5 hO s v0 v1 v2 q J) rfl rfl kk
theorem wfy_State_loadsAt {G : ai_G} {d : Nat} {h0 : ai_H} (hO : hOld G h0) (s : yS) (v0 : Nat) (v1 : Nat) (v2 : Int32) : ∀ r, fy_State_loadsAt G s v0 v1 v2 = some r → (Pi (yH s h0)) r (ai_call G (d + 2) 129 [.ref v0, .ref v1, .int v2] (yH s h0)) := by
  refine tq_meth (P := (Pi (yH s h0))) (d := (d + 1)) (Nat.le_of_ble_eq_true rfl) ?_
  show Tj G (d + 1) 129 (Pi (yH s h0)) (fy_State_loadsAt G s v0 v1 v2) 0 [some (.ref v0), some (.ref v1), some (.int v2), none, none] [] (yH s h0)
  unfold fy_State_loadsAt
  refine tq_iconst (v := 0) dX2_loadsAt_0 (by decide) ?_
  refine tq_istore_n (L' := [_, _, _, _, _]) dX2_loadsAt_1 (Nat.le_of_ble_eq_true rfl) rfl ?_
  refine tq_iconst (v := 0) dX2_loadsAt_2 (by decide) ?_
  refine tq_istore (L' := [_, _, _, _, _]) dX2_loadsAt_3 (Nat.le_of_ble_eq_true rfl) rfl ?_
  refine Sfy_State_loadsAt_b5 hO _ _ _ _ _ _ () (fun q5 J5 => ?_)
  refine tq_iload_n dX2_loadsAt_41 rfl ?_
  exact tq_ireturn dX2_loadsAt_42 rfl rfl
theorem wfy_River_has {G : ai_G} {d : Nat} {h : ai_H} (v0 : Int32) (v1 : Int32) : ∀ r, fy_River_has v0 v1 = some r → (Pi h) r (ai_call G (d + 1) 130 [.int v0, .int v1] h) := by
  refine tq_meth (P := (Pi h)) (d := d) (Nat.le_of_ble_eq_true rfl) ?_
  show Tj G d 130 (Pi h) (fy_River_has v0 v1) 0 [some (.int v0), some (.int v1)] [] h
  unfold fy_River_has
  refine tq_iload_n dX1_has_0 rfl ?_
  refine tq_iload_n dX1_has_1 rfl ?_
  refine tq_ishr dX1_has_2 ?_
  refine tq_iconst (v := 1) dX1_has_3 (by decide) ?_
  refine tq_iand dX1_has_4 ?_
  refine tq_iconst (v := 1) dX1_has_5 (by decide) ?_
  refine tq_icmp_ne dX1_has_6 rfl ?_ ?_
  · refine tq_iconst (v := 0) dX1_has_13 (by decide) ?_
    exact tq_ireturn dX1_has_14 (by decide) rfl
  · refine tq_iconst (v := 1) dX1_has_9 (by decide) ?_
    refine tq_goto dX1_has_10 rfl ?_
    exact tq_ireturn dX1_has_14 (by decide) rfl

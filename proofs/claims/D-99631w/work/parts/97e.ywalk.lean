/-! WALKS of the component (printed by tools/decy.py) -/
set_option maxRecDepth 100000
theorem wfy_B_stroke_j41 {G : ai_G} {d : Nat} {h0 : ai_H} (hO : hOld G h0)    (s : yS) (v0 : Nat) (v1 : Int32) (v2 : Int32) (v3 : Int32) (t0 : Int32) (t1 : Int32): Tj G (d + 130) 168 (PyI h0) (fy_B_stroke_j41 G s v0 v1 v2 v3 t0 t1) 41 [some (.ref v0), some (.int v1), some (.int v2), some (.int v3)] [.int t1, .int t0] (yH s h0) := by
  unfold fy_B_stroke_j41
  refine tq_icmp_ne dX0_stroke_41 rfl ?_ ?_
  · refine tq_aload_n dX0_stroke_46 rfl ?_
    refine ty_v0_V dX0_stroke_47 rfl rfl rfl (Nat.le_of_ble_eq_true rfl) (wfy_B_keepAct hO (d := d + 123) _ _) (fun p47 => ?_)
    refine tq_aload_n dX0_stroke_50 rfl ?_
    refine ty_gR dX0_stroke_51 rfl rfl (fun x51 => ?_)
    refine tq_sipush (v := 137) dX0_stroke_54 (by decide) ?_
    refine tq_aload_n dX0_stroke_57 rfl ?_
    refine ty_gR dX0_stroke_58 rfl rfl (fun x58 => ?_)
    refine ty_gI dX0_stroke_61 rfl rfl (fun x61 => ?_)
    refine tq_imul dX0_stroke_64 ?_
    refine tq_bipush (v := 71) dX0_stroke_65 (by decide) ?_
    refine tq_iadd dX0_stroke_67 ?_
    refine tq_sipush (v := 1000) dX0_stroke_68 (by decide) ?_
    refine tq_irem dX0_stroke_71 (fun x71 => ?_)
    refine ty_wI dX0_stroke_72 rfl rfl rfl (fun s72 => ?_)
    refine tq_aload_n dX0_stroke_75 rfl ?_
    refine ty_gR dX0_stroke_76 rfl rfl (fun x76 => ?_)
    refine tq_aload_n dX0_stroke_79 rfl ?_
    refine ty_gR dX0_stroke_80 rfl rfl (fun x80 => ?_)
    refine tq_iload_n dX0_stroke_83 rfl ?_
    refine tq_iload_n dX0_stroke_84 rfl ?_
    refine tq_iload_n dX0_stroke_85 rfl ?_
    refine tq_aload_n dX0_stroke_86 rfl ?_
    refine ty_gR dX0_stroke_87 rfl rfl (fun x87 => ?_)
    refine ty_gI dX0_stroke_90 rfl rfl (fun x90 => ?_)
    refine tq_bipush (v := 100) dX0_stroke_93 (by decide) ?_
    refine tq_irem dX0_stroke_95 (fun x95 => ?_)
    refine tq_aload_n dX0_stroke_96 rfl ?_
    refine ty_gR dX0_stroke_97 rfl rfl (fun x97 => ?_)
    refine ty_gI dX0_stroke_100 rfl rfl (fun x100 => ?_)
    refine tq_icmp_ge dX0_stroke_103 rfl ?_ ?_
    · refine tq_iconst (v := 0) dX0_stroke_110 (by decide) ?_
      refine ty_v5_I dX0_stroke_111 rfl rfl rfl (Nat.le_of_ble_eq_true rfl) (wfy_State_stroke hO (d := d) _ _ _ _ _ _ _) (fun p111 => ?_)
      exact tq_ireturn dX0_stroke_114 rfl rfl
    · refine tq_iconst (v := 1) dX0_stroke_106 (by decide) ?_
      refine tq_goto dX0_stroke_107 rfl ?_
      refine ty_v5_I dX0_stroke_111 rfl rfl rfl (Nat.le_of_ble_eq_true rfl) (wfy_State_stroke hO (d := d) _ _ _ _ _ _ _) (fun p111 => ?_)
      exact tq_ireturn dX0_stroke_114 rfl rfl
  · refine tq_iconst (v := (-1)) dX0_stroke_44 (by decide) ?_
    exact tq_ireturn dX0_stroke_45 rfl rfl
theorem wfy_B_stroke {G : ai_G} {d : Nat} {h0 : ai_H} (hO : hOld G h0) (s : yS) (v0 : Nat) (v1 : Int32) (v2 : Int32) (v3 : Int32) : ∀ r, fy_B_stroke G s v0 v1 v2 v3 = some r → (PyI h0) r (ai_call G (d + 131) 168 [.ref v0, .int v1, .int v2, .int v3] (yH s h0)) := by
  refine tq_meth (P := (PyI h0)) (d := (d + 130)) (Nat.le_of_ble_eq_true rfl) ?_
  show Tj G (d + 130) 168 (PyI h0) (fy_B_stroke G s v0 v1 v2 v3) 0 [some (.ref v0), some (.int v1), some (.int v2), some (.int v3)] [] (yH s h0)
  unfold fy_B_stroke
  refine tq_aload_n dX0_stroke_0 rfl ?_
  refine tq_iload_n dX0_stroke_1 rfl ?_
  refine ty_v1_i dX0_stroke_2 rfl rfl rfl (Nat.le_of_ble_eq_true rfl) (wfy_B_isBoard hO (d := d + 127) _ _ _) (fun p2 => ?_)
  refine tq_if_eq dX0_stroke_5 rfl ?_ ?_
  · refine tq_iconst (v := (-1)) dX0_stroke_44 (by decide) ?_
    exact tq_ireturn dX0_stroke_45 rfl rfl
  · refine tq_iload_n dX0_stroke_8 rfl ?_
    refine tq_iconst (v := (-1)) dX0_stroke_9 (by decide) ?_
    refine tq_iconst (v := 1) dX0_stroke_10 (by decide) ?_
    refine ty_s3_pi dX0_stroke_11 rfl rfl rfl (Nat.le_of_ble_eq_true rfl) (wfy_B_isIn (d := d + 129) _ _ _) (fun p11 => ?_)
    refine tq_if_eq dX0_stroke_14 rfl ?_ ?_
    · refine tq_iconst (v := (-1)) dX0_stroke_44 (by decide) ?_
      exact tq_ireturn dX0_stroke_45 rfl rfl
    · refine tq_aload_n dX0_stroke_17 rfl ?_
      refine ty_gR dX0_stroke_18 rfl rfl (fun x18 => ?_)
      refine ty_gR dX0_stroke_21 rfl rfl (fun x21 => ?_)
      refine tq_iload_n dX0_stroke_24 rfl ?_
      refine ty_iald dX0_stroke_25 (fun x25 => ?_)
      refine tq_iload_n dX0_stroke_26 rfl ?_
      refine tq_if_eq dX0_stroke_27 rfl ?_ ?_
      · refine tq_iconst (v := 0) dX0_stroke_40 (by decide) ?_
        exact wfy_B_stroke_j41 hO _ _ _ _ _ _ _
      · refine tq_aload_n dX0_stroke_30 rfl ?_
        refine ty_gR dX0_stroke_31 rfl rfl (fun x31 => ?_)
        refine ty_gI dX0_stroke_34 rfl rfl (fun x34 => ?_)
        refine tq_goto dX0_stroke_37 rfl ?_
        exact wfy_B_stroke_j41 hO _ _ _ _ _ _ _
theorem wfy_State_bankOf {G : ai_G} {d : Nat} {h0 : ai_H} (hO : hOld G h0) (s : yS) (v0 : Nat) (v1 : Nat) (v2 : Int32) : ∀ r, fy_State_bankOf G s v0 v1 v2 = some r → (Pi (yH s h0)) r (ai_call G (d + 1) 174 [.ref v0, .ref v1, .int v2] (yH s h0)) := by
  refine tq_meth (P := (Pi (yH s h0))) (d := d) (Nat.le_of_ble_eq_true rfl) ?_
  show Tj G d 174 (Pi (yH s h0)) (fy_State_bankOf G s v0 v1 v2) 0 [some (.ref v0), some (.ref v1), some (.int v2)] [] (yH s h0)
  unfold fy_State_bankOf
  refine tq_aload_n dX2_bankOf_0 rfl ?_
  refine ty_gR dX2_bankOf_1 rfl rfl (fun x1 => ?_)
  refine tq_iload_n dX2_bankOf_4 rfl ?_
  refine ty_iald dX2_bankOf_5 (fun x5 => ?_)
  refine tq_if_ne dX2_bankOf_6 rfl ?_ ?_
  · refine tq_aload_n dX2_bankOf_13 rfl ?_
    refine ty_gR dX2_bankOf_14 rfl rfl (fun x14 => ?_)
    refine tq_iload_n dX2_bankOf_17 rfl ?_
    refine ty_iald dX2_bankOf_18 (fun x18 => ?_)
    refine tq_aload_n dX2_bankOf_19 rfl ?_
    refine ty_gI dX2_bankOf_20 rfl rfl (fun x20 => ?_)
    refine tq_icmp_ne dX2_bankOf_23 rfl ?_ ?_
    · refine tq_iconst (v := 0) dX2_bankOf_31 (by decide) ?_
      exact tq_ireturn dX2_bankOf_32 rfl rfl
    · refine tq_bipush (v := (-2)) dX2_bankOf_26 (by decide) ?_
      refine tq_goto dX2_bankOf_28 rfl ?_
      exact tq_ireturn dX2_bankOf_32 rfl rfl
  · refine tq_iconst (v := (-1)) dX2_bankOf_9 (by decide) ?_
    refine tq_goto dX2_bankOf_10 rfl ?_
    exact tq_ireturn dX2_bankOf_32 rfl rfl
theorem wfy_B_liesFlat {G : ai_G} {d : Nat} {h0 : ai_H} (hO : hOld G h0) (s : yS) (v0 : Nat) (v1 : Int32) (v2 : Int32) : ∀ r, fy_B_liesFlat G s v0 v1 v2 = some r → (Pi (yH s h0)) r (ai_call G (d + 6) 175 [.ref v0, .int v1, .int v2] (yH s h0)) := by
  refine tq_meth (P := (Pi (yH s h0))) (d := (d + 5)) (Nat.le_of_ble_eq_true rfl) ?_
  show Tj G (d + 5) 175 (Pi (yH s h0)) (fy_B_liesFlat G s v0 v1 v2) 0 [some (.ref v0), some (.int v1), some (.int v2)] [] (yH s h0)
  unfold fy_B_liesFlat
  refine tq_aload_n dX0_liesFlat_0 rfl ?_
  refine ty_gR dX0_liesFlat_1 rfl rfl (fun x1 => ?_)
  refine tq_aload_n dX0_liesFlat_4 rfl ?_
  refine ty_gR dX0_liesFlat_5 rfl rfl (fun x5 => ?_)
  refine tq_iload_n dX0_liesFlat_8 rfl ?_
  refine ty_v2_i dX0_liesFlat_9 rfl rfl rfl (Nat.le_of_ble_eq_true rfl) (wfy_State_burden hO (d := d) _ _ _ _) (fun p9 => ?_)
  refine tq_iload_n dX0_liesFlat_12 rfl ?_
  refine tq_iadd dX0_liesFlat_13 ?_
  refine tq_aload_n dX0_liesFlat_14 rfl ?_
  refine ty_gR dX0_liesFlat_15 rfl rfl (fun x15 => ?_)
  refine ty_gR dX0_liesFlat_18 rfl rfl (fun x18 => ?_)
  refine tq_iload_n dX0_liesFlat_21 rfl ?_
  refine ty_v1_r dX0_liesFlat_22 rfl rfl rfl (Nat.le_of_ble_eq_true rfl) (wfy_List_get hO (d := d + 2) _ _ _) (fun p22 => ?_)
  refine ty_cast dX0_liesFlat_25 rfl (fun _ => ?_)
  refine ty_gI dX0_liesFlat_28 rfl rfl (fun x28 => ?_)
  refine tq_icmp_gt dX0_liesFlat_31 rfl ?_ ?_
  · refine tq_iconst (v := 0) dX0_liesFlat_38 (by decide) ?_
    exact tq_ireturn dX0_liesFlat_39 (by decide) rfl
  · refine tq_iconst (v := 1) dX0_liesFlat_34 (by decide) ?_
    refine tq_goto dX0_liesFlat_35 rfl ?_
    exact tq_ireturn dX0_liesFlat_39 (by decide) rfl
theorem wfy_B_stow {G : ai_G} {d : Nat} {h0 : ai_H} (hO : hOld G h0) (s : yS) (v0 : Nat) (v1 : Int32) (v2 : Int32) : ∀ r, fy_B_stow G s v0 v1 v2 = some r → (PyI h0) r (ai_call G (d + 8) 176 [.ref v0, .int v1, .int v2] (yH s h0)) := by
  refine tq_meth (P := (PyI h0)) (d := (d + 7)) (Nat.le_of_ble_eq_true rfl) ?_
  show Tj G (d + 7) 176 (PyI h0) (fy_B_stow G s v0 v1 v2) 0 [some (.ref v0), some (.int v1), some (.int v2)] [] (yH s h0)
  unfold fy_B_stow
  refine tq_aload_n dX0_stow_0 rfl ?_
  refine tq_iload_n dX0_stow_1 rfl ?_
  refine ty_v1_i dX0_stow_2 rfl rfl rfl (Nat.le_of_ble_eq_true rfl) (wfy_B_isLoad hO (d := d + 4) _ _ _) (fun p2 => ?_)
  refine tq_if_eq dX0_stow_5 rfl ?_ ?_
  · refine tq_iconst (v := (-1)) dX0_stow_77 (by decide) ?_
    exact tq_ireturn dX0_stow_78 rfl rfl
  · refine tq_aload_n dX0_stow_8 rfl ?_
    refine tq_iload_n dX0_stow_9 rfl ?_
    refine ty_v1_i dX0_stow_10 rfl rfl rfl (Nat.le_of_ble_eq_true rfl) (wfy_B_isBoard hO (d := d + 4) _ _ _) (fun p10 => ?_)
    refine tq_if_eq dX0_stow_13 rfl ?_ ?_
    · refine tq_iconst (v := (-1)) dX0_stow_77 (by decide) ?_
      exact tq_ireturn dX0_stow_78 rfl rfl
    · refine tq_aload_n dX0_stow_16 rfl ?_
      refine ty_gR dX0_stow_17 rfl rfl (fun x17 => ?_)
      refine ty_gR dX0_stow_20 rfl rfl (fun x20 => ?_)
      refine tq_iload_n dX0_stow_23 rfl ?_
      refine ty_iald dX0_stow_24 (fun x24 => ?_)
      refine tq_if_ge dX0_stow_25 rfl ?_ ?_
      · refine tq_iconst (v := (-1)) dX0_stow_77 (by decide) ?_
        exact tq_ireturn dX0_stow_78 rfl rfl
      · refine tq_aload_n dX0_stow_28 rfl ?_
        refine ty_gR dX0_stow_29 rfl rfl (fun x29 => ?_)
        refine ty_gR dX0_stow_32 rfl rfl (fun x32 => ?_)
        refine tq_iload_n dX0_stow_35 rfl ?_
        refine ty_iald dX0_stow_36 (fun x36 => ?_)
        refine tq_aload_n dX0_stow_37 rfl ?_
        refine ty_gR dX0_stow_38 rfl rfl (fun x38 => ?_)
        refine tq_aload_n dX0_stow_41 rfl ?_
        refine ty_gR dX0_stow_42 rfl rfl (fun x42 => ?_)
        refine tq_iload_n dX0_stow_45 rfl ?_
        refine ty_v2_i dX0_stow_46 rfl rfl rfl (Nat.le_of_ble_eq_true rfl) (wfy_State_bankOf hO (d := d + 6) _ _ _ _) (fun p46 => ?_)
        refine tq_icmp_ne dX0_stow_49 rfl ?_ ?_
        · refine tq_iconst (v := (-1)) dX0_stow_77 (by decide) ?_
          exact tq_ireturn dX0_stow_78 rfl rfl
        · refine tq_aload_n dX0_stow_52 rfl ?_
          refine tq_iload_n dX0_stow_53 rfl ?_
          refine tq_aload_n dX0_stow_54 rfl ?_
          refine ty_gR dX0_stow_55 rfl rfl (fun x55 => ?_)
          refine ty_gR dX0_stow_58 rfl rfl (fun x58 => ?_)
          refine tq_iload_n dX0_stow_61 rfl ?_
          refine ty_v1_r dX0_stow_62 rfl rfl rfl (Nat.le_of_ble_eq_true rfl) (wfy_List_get hO (d := d + 4) _ _ _) (fun p62 => ?_)
          refine ty_cast dX0_stow_65 rfl (fun _ => ?_)
          refine ty_gI dX0_stow_68 rfl rfl (fun x68 => ?_)
          refine ty_v2_i dX0_stow_71 rfl rfl rfl (Nat.le_of_ble_eq_true rfl) (wfy_B_liesFlat hO (d := d + 1) _ _ _ _) (fun p71 => ?_)
          refine tq_if_ne dX0_stow_74 rfl ?_ ?_
          · refine tq_aload_n dX0_stow_79 rfl ?_
            refine ty_v0_V dX0_stow_80 rfl rfl rfl (Nat.le_of_ble_eq_true rfl) (wfy_B_keepAct hO (d := d) _ _) (fun p80 => ?_)
            refine tq_aload_n dX0_stow_83 rfl ?_
            refine ty_gR dX0_stow_84 rfl rfl (fun x84 => ?_)
            refine ty_gR dX0_stow_87 rfl rfl (fun x87 => ?_)
            refine tq_iload_n dX0_stow_90 rfl ?_
            refine tq_iload_n dX0_stow_91 rfl ?_
            refine ty_iast dX0_stow_92 (fun s92 => ?_)
            refine tq_aload_n dX0_stow_93 rfl ?_
            refine ty_gR dX0_stow_94 rfl rfl (fun x94 => ?_)
            refine tq_aload_n dX0_stow_97 rfl ?_
            refine ty_gR dX0_stow_98 rfl rfl (fun x98 => ?_)
            refine tq_iload_n dX0_stow_101 rfl ?_
            refine ty_v2_i dX0_stow_102 rfl rfl rfl (Nat.le_of_ble_eq_true rfl) (wfy_State_burden hO (d := d + 2) _ _ _ _) (fun p102 => ?_)
            exact tq_ireturn dX0_stow_105 rfl rfl
          · refine tq_iconst (v := (-1)) dX0_stow_77 (by decide) ?_
            exact tq_ireturn dX0_stow_78 rfl rfl
theorem wfy_B_take {G : ai_G} {d : Nat} {h0 : ai_H} (hO : hOld G h0) (s : yS) (v0 : Nat) (v1 : Int32) : ∀ r, fy_B_take G s v0 v1 = some r → (PyI h0) r (ai_call G (d + 8) 180 [.ref v0, .int v1] (yH s h0)) := by
  refine tq_meth (P := (PyI h0)) (d := (d + 7)) (Nat.le_of_ble_eq_true rfl) ?_
  show Tj G (d + 7) 180 (PyI h0) (fy_B_take G s v0 v1) 0 [some (.ref v0), some (.int v1), none] [] (yH s h0)
  unfold fy_B_take
  refine tq_aload_n dX0_take_0 rfl ?_
  refine tq_iload_n dX0_take_1 rfl ?_
  refine ty_v1_i dX0_take_2 rfl rfl rfl (Nat.le_of_ble_eq_true rfl) (wfy_B_isLoad hO (d := d + 4) _ _ _) (fun p2 => ?_)
  refine tq_if_eq dX0_take_5 rfl ?_ ?_
  · refine tq_iconst (v := (-1)) dX0_take_43 (by decide) ?_
    exact tq_ireturn dX0_take_44 rfl rfl
  · refine tq_aload_n dX0_take_8 rfl ?_
    refine ty_gR dX0_take_9 rfl rfl (fun x9 => ?_)
    refine ty_gR dX0_take_12 rfl rfl (fun x12 => ?_)
    refine tq_iload_n dX0_take_15 rfl ?_
    refine ty_iald dX0_take_16 (fun x16 => ?_)
    refine tq_if_lt dX0_take_17 rfl ?_ ?_
    · refine tq_iconst (v := (-1)) dX0_take_43 (by decide) ?_
      exact tq_ireturn dX0_take_44 rfl rfl
    · refine tq_aload_n dX0_take_20 rfl ?_
      refine ty_gR dX0_take_21 rfl rfl (fun x21 => ?_)
      refine tq_aload_n dX0_take_24 rfl ?_
      refine ty_gR dX0_take_25 rfl rfl (fun x25 => ?_)
      refine tq_aload_n dX0_take_28 rfl ?_
      refine ty_gR dX0_take_29 rfl rfl (fun x29 => ?_)
      refine ty_gR dX0_take_32 rfl rfl (fun x32 => ?_)
      refine tq_iload_n dX0_take_35 rfl ?_
      refine ty_iald dX0_take_36 (fun x36 => ?_)
      refine ty_v2_i dX0_take_37 rfl rfl rfl (Nat.le_of_ble_eq_true rfl) (wfy_State_bankOf hO (d := d + 6) _ _ _ _) (fun p37 => ?_)
      refine tq_if_ne dX0_take_40 rfl ?_ ?_
      · refine tq_aload_n dX0_take_45 rfl ?_
        refine ty_v0_V dX0_take_46 rfl rfl rfl (Nat.le_of_ble_eq_true rfl) (wfy_B_keepAct hO (d := d) _ _) (fun p46 => ?_)
        refine tq_aload_n dX0_take_49 rfl ?_
        refine ty_gR dX0_take_50 rfl rfl (fun x50 => ?_)
        refine ty_gR dX0_take_53 rfl rfl (fun x53 => ?_)
        refine tq_iload_n dX0_take_56 rfl ?_
        refine ty_iald dX0_take_57 (fun x57 => ?_)
        refine tq_istore_n (L' := [_, _, _]) dX0_take_58 (Nat.le_of_ble_eq_true rfl) rfl ?_
        refine tq_aload_n dX0_take_59 rfl ?_
        refine ty_gR dX0_take_60 rfl rfl (fun x60 => ?_)
        refine ty_gR dX0_take_63 rfl rfl (fun x63 => ?_)
        refine tq_iload_n dX0_take_66 rfl ?_
        refine tq_aload_n dX0_take_67 rfl ?_
        refine ty_gR dX0_take_68 rfl rfl (fun x68 => ?_)
        refine tq_aload_n dX0_take_71 rfl ?_
        refine ty_gR dX0_take_72 rfl rfl (fun x72 => ?_)
        refine tq_iload_n dX0_take_75 rfl ?_
        refine ty_v2_i dX0_take_76 rfl rfl rfl (Nat.le_of_ble_eq_true rfl) (wfy_State_bankOf hO (d := d + 6) _ _ _ _) (fun p76 => ?_)
        refine ty_iast dX0_take_79 (fun s79 => ?_)
        refine tq_iload_n dX0_take_80 rfl ?_
        exact tq_ireturn dX0_take_81 rfl rfl
      · refine tq_iconst (v := (-1)) dX0_take_43 (by decide) ?_
        exact tq_ireturn dX0_take_44 rfl rfl
theorem wfy_B_cool {G : ai_G} {d : Nat} {h0 : ai_H} (hO : hOld G h0) (s : yS) (v0 : Nat) (v1 : Int32) (v2 : Int32) : ∀ r, fy_B_cool G s v0 v1 v2 = some r → (PyI h0) r (ai_call G (d + 8) 182 [.ref v0, .int v1, .int v2] (yH s h0)) := by
  refine tq_meth (P := (PyI h0)) (d := (d + 7)) (Nat.le_of_ble_eq_true rfl) ?_
  show Tj G (d + 7) 182 (PyI h0) (fy_B_cool G s v0 v1 v2) 0 [some (.ref v0), some (.int v1), some (.int v2)] [] (yH s h0)
  unfold fy_B_cool
  refine tq_aload_n dX0_cool_0 rfl ?_
  refine tq_iload_n dX0_cool_1 rfl ?_
  refine ty_v1_i dX0_cool_2 rfl rfl rfl (Nat.le_of_ble_eq_true rfl) (wfy_B_isBoard hO (d := d + 4) _ _ _) (fun p2 => ?_)
  refine tq_if_eq dX0_cool_5 rfl ?_ ?_
  · refine tq_iconst (v := (-1)) dX0_cool_18 (by decide) ?_
    exact tq_ireturn dX0_cool_19 rfl rfl
  · refine tq_iload_n dX0_cool_8 rfl ?_
    refine tq_iconst (v := 1) dX0_cool_9 (by decide) ?_
    refine tq_bipush (v := 9) dX0_cool_10 (by decide) ?_
    refine ty_s3_pi dX0_cool_12 rfl rfl rfl (Nat.le_of_ble_eq_true rfl) (wfy_B_isIn (d := d + 6) _ _ _) (fun p12 => ?_)
    refine tq_if_ne dX0_cool_15 rfl ?_ ?_
    · refine tq_aload_n dX0_cool_20 rfl ?_
      refine ty_v0_V dX0_cool_21 rfl rfl rfl (Nat.le_of_ble_eq_true rfl) (wfy_B_keepAct hO (d := d) _ _) (fun p21 => ?_)
      refine tq_aload_n dX0_cool_24 rfl ?_
      refine ty_gR dX0_cool_25 rfl rfl (fun x25 => ?_)
      refine ty_gR dX0_cool_28 rfl rfl (fun x28 => ?_)
      refine tq_iload_n dX0_cool_31 rfl ?_
      refine tq_aload_n dX0_cool_32 rfl ?_
      refine ty_gR dX0_cool_33 rfl rfl (fun x33 => ?_)
      refine ty_gR dX0_cool_36 rfl rfl (fun x36 => ?_)
      refine tq_iload_n dX0_cool_39 rfl ?_
      refine ty_iald dX0_cool_40 (fun x40 => ?_)
      refine tq_iload_n dX0_cool_41 rfl ?_
      refine tq_isub dX0_cool_42 ?_
      refine tq_bipush (v := 99) dX0_cool_43 (by decide) ?_
      refine ty_s2_pi dX0_cool_45 rfl rfl rfl (Nat.le_of_ble_eq_true rfl) (wfy_B_within (d := d + 6) _ _) (fun p45 => ?_)
      refine ty_iast dX0_cool_48 (fun s48 => ?_)
      refine tq_aload_n dX0_cool_49 rfl ?_
      refine ty_gR dX0_cool_50 rfl rfl (fun x50 => ?_)
      refine ty_gR dX0_cool_53 rfl rfl (fun x53 => ?_)
      refine tq_iload_n dX0_cool_56 rfl ?_
      refine ty_iald dX0_cool_57 (fun x57 => ?_)
      exact tq_ireturn dX0_cool_58 rfl rfl
    · refine tq_iconst (v := (-1)) dX0_cool_18 (by decide) ?_
      exact tq_ireturn dX0_cool_19 rfl rfl
theorem wfy_List_isEmpty {G : ai_G} {d : Nat} {h0 : ai_H} (hO : hOld G h0) (s : yS) (v0 : Nat) : ∀ r, fy_List_isEmpty G s v0 = some r → (Pi (yH s h0)) r (ai_call G (d + 1) 184 [.ref v0] (yH s h0)) := by
  refine tq_meth (P := (Pi (yH s h0))) (d := d) (Nat.le_of_ble_eq_true rfl) ?_
  show Tj G d 184 (Pi (yH s h0)) (fy_List_isEmpty G s v0) 0 [some (.ref v0)] [] (yH s h0)
  unfold fy_List_isEmpty
  refine tq_aload_n dJ2_isEmpty_0 rfl ?_
  refine ty_gI dJ2_isEmpty_1 rfl rfl (fun x1 => ?_)
  refine tq_if_ne dJ2_isEmpty_4 rfl ?_ ?_
  · refine tq_iconst (v := 0) dJ2_isEmpty_11 (by decide) ?_
    exact tq_ireturn dJ2_isEmpty_12 (by decide) rfl
  · refine tq_iconst (v := 1) dJ2_isEmpty_7 (by decide) ?_
    refine tq_goto dJ2_isEmpty_8 rfl ?_
    exact tq_ireturn dJ2_isEmpty_12 (by decide) rfl
theorem wfy_B_turned {G : ai_G} {d : Nat} {h0 : ai_H} (hO : hOld G h0) (s : yS) (v0 : Nat) (v1 : Nat) : ∀ r, fy_B_turned G s v0 v1 = some r → (PyR h0) r (ai_call G (d + 3) 185 [.ref v0, .ref v1] (yH s h0)) := by
  refine tq_meth (P := (PyR h0)) (d := (d + 2)) (Nat.le_of_ble_eq_true rfl) ?_
  show Tj G (d + 2) 185 (PyR h0) (fy_B_turned G s v0 v1) 0 [some (.ref v0), some (.ref v1), none] [] (yH s h0)
  unfold fy_B_turned
  refine tq_aload_n dX0_turned_0 rfl ?_
  refine ty_gR dX0_turned_1 rfl rfl (fun x1 => ?_)
  refine ty_s1_R dX0_turned_4 rfl rfl rfl (Nat.le_of_ble_eq_true rfl) (wfy_B_copy hO (d := d) _ _) (fun p4 => ?_)
  refine tq_astore_n (L' := [_, _, _]) dX0_turned_7 (Nat.le_of_ble_eq_true rfl) rfl ?_
  refine tq_aload_n dX0_turned_8 rfl ?_
  refine ty_gR dX0_turned_9 rfl rfl (fun x9 => ?_)
  refine tq_aload_n dX0_turned_12 rfl ?_
  refine ty_gR dX0_turned_13 rfl rfl (fun x13 => ?_)
  refine ty_v1_V dX0_turned_16 rfl rfl rfl (Nat.le_of_ble_eq_true rfl) (wfy_State_of hO (d := d + 1) _ _ _) (fun p16 => ?_)
  refine tq_aload_n dX0_turned_19 rfl ?_
  refine tq_aload_n dX0_turned_20 rfl ?_
  refine ty_wRr dX0_turned_21 rfl rfl rfl (fun s21 => ?_)
  refine tq_aload_n dX0_turned_24 rfl ?_
  exact tq_areturn dX0_turned_25 rfl rfl rfl
theorem wfy_B_undo {G : ai_G} {d : Nat} {h0 : ai_H} (hO : hOld G h0) (s : yS) (v0 : Nat) : ∀ r, fy_B_undo G s v0 = some r → (PyI h0) r (ai_call G (d + 7) 186 [.ref v0] (yH s h0)) := by
  refine tq_meth (P := (PyI h0)) (d := (d + 6)) (Nat.le_of_ble_eq_true rfl) ?_
  show Tj G (d + 6) 186 (PyI h0) (fy_B_undo G s v0) 0 [some (.ref v0)] [] (yH s h0)
  unfold fy_B_undo
  refine tq_aload_n dX0_undo_0 rfl ?_
  refine ty_gR dX0_undo_1 rfl rfl (fun x1 => ?_)
  refine ty_v0_i dX0_undo_4 rfl rfl rfl (Nat.le_of_ble_eq_true rfl) (wfy_List_isEmpty hO (d := d + 5) _ _) (fun p4 => ?_)
  refine tq_if_eq dX0_undo_7 rfl ?_ ?_
  · refine tq_aload_n dX0_undo_12 rfl ?_
    refine ty_gR dX0_undo_13 rfl rfl (fun x13 => ?_)
    refine tq_aload_n dX0_undo_16 rfl ?_
    refine tq_aload_n dX0_undo_17 rfl ?_
    refine ty_gR dX0_undo_18 rfl rfl (fun x18 => ?_)
    refine tq_aload_n dX0_undo_21 rfl ?_
    refine ty_gR dX0_undo_22 rfl rfl (fun x22 => ?_)
    refine ty_v0_i dX0_undo_25 rfl rfl rfl (Nat.le_of_ble_eq_true rfl) (wfy_List_size hO (d := d + 5) _ _) (fun p25 => ?_)
    refine tq_iconst (v := 1) dX0_undo_28 (by decide) ?_
    refine tq_isub dX0_undo_29 ?_
    refine ty_v1_R dX0_undo_30 rfl rfl rfl (Nat.le_of_ble_eq_true rfl) (wfy_List_remove hO (d := d + 3) _ _ _) (fun p30 => ?_)
    refine ty_cast dX0_undo_33 rfl (fun _ => ?_)
    refine ty_v1_R dX0_undo_36 rfl rfl rfl (Nat.le_of_ble_eq_true rfl) (wfy_B_turned hO (d := d + 3) _ _ _) (fun p36 => ?_)
    refine ty_v1_I dX0_undo_39 rfl rfl rfl (Nat.le_of_ble_eq_true rfl) (wfy_List_add hO (d := d) _ _ _) (fun p39 => ?_)
    refine tq_pop dX0_undo_42 rfl ?_
    refine tq_iconst (v := 1) dX0_undo_43 (by decide) ?_
    exact tq_ireturn dX0_undo_44 (by decide) rfl
  · refine tq_iconst (v := 0) dX0_undo_10 (by decide) ?_
    exact tq_ireturn dX0_undo_11 (by decide) rfl
theorem wfy_B_redo {G : ai_G} {d : Nat} {h0 : ai_H} (hO : hOld G h0) (s : yS) (v0 : Nat) : ∀ r, fy_B_redo G s v0 = some r → (PyI h0) r (ai_call G (d + 7) 189 [.ref v0] (yH s h0)) := by
  refine tq_meth (P := (PyI h0)) (d := (d + 6)) (Nat.le_of_ble_eq_true rfl) ?_
  show Tj G (d + 6) 189 (PyI h0) (fy_B_redo G s v0) 0 [some (.ref v0)] [] (yH s h0)
  unfold fy_B_redo
  refine tq_aload_n dX0_redo_0 rfl ?_
  refine ty_gR dX0_redo_1 rfl rfl (fun x1 => ?_)
  refine ty_v0_i dX0_redo_4 rfl rfl rfl (Nat.le_of_ble_eq_true rfl) (wfy_List_isEmpty hO (d := d + 5) _ _) (fun p4 => ?_)
  refine tq_if_eq dX0_redo_7 rfl ?_ ?_
  · refine tq_aload_n dX0_redo_12 rfl ?_
    refine ty_gR dX0_redo_13 rfl rfl (fun x13 => ?_)
    refine tq_aload_n dX0_redo_16 rfl ?_
    refine tq_aload_n dX0_redo_17 rfl ?_
    refine ty_gR dX0_redo_18 rfl rfl (fun x18 => ?_)
    refine tq_aload_n dX0_redo_21 rfl ?_
    refine ty_gR dX0_redo_22 rfl rfl (fun x22 => ?_)
    refine ty_v0_i dX0_redo_25 rfl rfl rfl (Nat.le_of_ble_eq_true rfl) (wfy_List_size hO (d := d + 5) _ _) (fun p25 => ?_)
    refine tq_iconst (v := 1) dX0_redo_28 (by decide) ?_
    refine tq_isub dX0_redo_29 ?_
    refine ty_v1_R dX0_redo_30 rfl rfl rfl (Nat.le_of_ble_eq_true rfl) (wfy_List_remove hO (d := d + 3) _ _ _) (fun p30 => ?_)
    refine ty_cast dX0_redo_33 rfl (fun _ => ?_)
    refine ty_v1_R dX0_redo_36 rfl rfl rfl (Nat.le_of_ble_eq_true rfl) (wfy_B_turned hO (d := d + 3) _ _ _) (fun p36 => ?_)
    refine ty_v1_I dX0_redo_39 rfl rfl rfl (Nat.le_of_ble_eq_true rfl) (wfy_List_add hO (d := d) _ _ _) (fun p39 => ?_)
    refine tq_pop dX0_redo_42 rfl ?_
    refine tq_iconst (v := 1) dX0_redo_43 (by decide) ?_
    exact tq_ireturn dX0_redo_44 (by decide) rfl
  · refine tq_iconst (v := 0) dX0_redo_10 (by decide) ?_
    exact tq_ireturn dX0_redo_11 (by decide) rfl
theorem wfy_B_strokesLeft {G : ai_G} {d : Nat} {h0 : ai_H} (hO : hOld G h0) (s : yS) (v0 : Nat) (v1 : Int32) : ∀ r, fy_B_strokesLeft G s v0 v1 = some r → (Pi (yH s h0)) r (ai_call G (d + 1) 191 [.ref v0, .int v1] (yH s h0)) := by
  refine tq_meth (P := (Pi (yH s h0))) (d := d) (Nat.le_of_ble_eq_true rfl) ?_
  show Tj G d 191 (Pi (yH s h0)) (fy_B_strokesLeft G s v0 v1) 0 [some (.ref v0), some (.int v1)] [] (yH s h0)
  unfold fy_B_strokesLeft
  refine tq_aload_n dX0_strokesLeft_0 rfl ?_
  refine ty_gR dX0_strokesLeft_1 rfl rfl (fun x1 => ?_)
  refine ty_gI dX0_strokesLeft_4 rfl rfl (fun x4 => ?_)
  refine tq_aload_n dX0_strokesLeft_7 rfl ?_
  refine ty_gR dX0_strokesLeft_8 rfl rfl (fun x8 => ?_)
  refine ty_gR dX0_strokesLeft_11 rfl rfl (fun x11 => ?_)
  refine tq_iload_n dX0_strokesLeft_14 rfl ?_
  refine ty_iald dX0_strokesLeft_15 (fun x15 => ?_)
  refine tq_isub dX0_strokesLeft_16 ?_
  exact tq_ireturn dX0_strokesLeft_17 rfl rfl
abbrev Pfy_B_power_b4 (G : ai_G) (d : Nat) (h : ai_H) (v0 : Int32) (v1 : Int32) : (Int32 × Int32) ⊕ Int32 → Option ai_R → Prop := Sum.elim (fun (q : Int32 × Int32) run => ∃ J : Unit, run = ai_run G d 192 4 [some (.int v0), some (.int v1), some (.int q.1), some (.int q.2)] [] h) (fun (q : Int32) run => ∃ J : JV × JV × JV, run = ai_run G d 192 19 [J.1.1, J.2.1.1, some (.int q), J.2.2.1] [] h)
theorem Bfy_B_power_b4 {G : ai_G} {d : Nat} {h : ai_H} (v0 : Int32) (v1 : Int32) (b0 : Int32) (b1 : Int32) (J : Unit) : Tj G d 192 (Pfy_B_power_b4 G d h v0 v1) (some (.inl (b0, b1))) 4 [some (.int v0), some (.int v1), some (.int b0), some (.int b1)] [] h := tq_back J rfl rfl
theorem Efy_B_power_b4 {G : ai_G} {d : Nat} {h : ai_H} (v0 : Int32) (v1 : Int32) (b0 : Int32) (J : JV × JV × JV) : Tj G d 192 (Pfy_B_power_b4 G d h v0 v1) (some (.inr b0)) 19 [J.1.1, J.2.1.1, some (.int b0), J.2.2.1] [] h := tq_exit J rfl rfl
theorem wfy_B_power_b4 {G : ai_G} {d : Nat} {h : ai_H} (v0 : Int32) (v1 : Int32) (q : Int32 × Int32) (J : Unit) : Tj G d 192 (Pfy_B_power_b4 G d h v0 v1) (fy_B_power_b4 v0 v1 q) 4 [some (.int v0), some (.int v1), some (.int q.1), some (.int q.2)] [] h := by
  unfold fy_B_power_b4
  refine tq_iload_n dX0_power_4 rfl ?_
  refine tq_iload_n dX0_power_5 rfl ?_
  refine tq_icmp_ge dX0_power_6 rfl ?_ ?_
  · exact Efy_B_power_b4 _ _ _ (⟨some (.int v0), rfl⟩, ⟨some (.int v1), rfl⟩, ⟨some (.int q.2), rfl⟩)
  · refine tq_iload_n dX0_power_9 rfl ?_
    refine tq_iload_n dX0_power_10 rfl ?_
    refine tq_imul dX0_power_11 ?_
    refine tq_istore_n (L' := [_, _, _, _]) dX0_power_12 (Nat.le_of_ble_eq_true rfl) rfl ?_
    refine tq_iinc (v := (q.2 + 1)) (L' := [_, _, _, _]) dX0_power_13 rfl (Nat.le_of_ble_eq_true rfl) rfl rfl ?_
    refine tq_goto dX0_power_16 rfl ?_
    exact Bfy_B_power_b4 _ _ _ _ ()
theorem Sfy_B_power_b4 {G : ai_G} {d : Nat} {h : ai_H} {α : Type} {P : α → Option ai_R → Prop} (v0 : Int32) (v1 : Int32) (b0 : Int32) (b1 : Int32) (J : Unit) {r : Int32 → Option α} (kk : ∀ (q : Int32) (J : JV × JV × JV), Tj G d 192 P (r q) 19 [J.1.1, J.2.1.1, some (.int q), J.2.2.1] [] h) : Tj G d 192 P ((lp (fy_B_power_b4 v0 v1) (b0, b1)).bind r) 4 [some (.int v0), some (.int v1), some (.int b0), some (.int b1)] [] h := tq_lp1 (J := J) (fun q J => wfy_B_power_b4 v0 v1 q J) rfl rfl kk
theorem wfy_B_power {G : ai_G} {d : Nat} {h : ai_H} (v0 : Int32) (v1 : Int32) : ∀ r, fy_B_power v0 v1 = some r → (Pi h) r (ai_call G (d + 1) 192 [.int v0, .int v1] h) := by
  refine tq_meth (P := (Pi h)) (d := d) (Nat.le_of_ble_eq_true rfl) ?_
  show Tj G d 192 (Pi h) (fy_B_power v0 v1) 0 [some (.int v0), some (.int v1), none, none] [] h
  unfold fy_B_power
  refine tq_iconst (v := 1) dX0_power_0 (by decide) ?_
  refine tq_istore_n (L' := [_, _, _, _]) dX0_power_1 (Nat.le_of_ble_eq_true rfl) rfl ?_
  refine tq_iconst (v := 0) dX0_power_2 (by decide) ?_
  refine tq_istore_n (L' := [_, _, _, _]) dX0_power_3 (Nat.le_of_ble_eq_true rfl) rfl ?_
  refine Sfy_B_power_b4 _ _ _ _ () (fun q4 J4 => ?_)
  refine tq_iload_n dX0_power_19 rfl ?_
  exact tq_ireturn dX0_power_20 rfl rfl
theorem wfy_B_steerOf {G : ai_G} {d : Nat} {h : ai_H} (v0 : Int32) (v1 : Int32) (v2 : Int32) : ∀ r, fy_B_steerOf v0 v1 v2 = some r → (Pi h) r (ai_call G (d + 2) 193 [.int v0, .int v1, .int v2] h) := by
  refine tq_meth (P := (Pi h)) (d := (d + 1)) (Nat.le_of_ble_eq_true rfl) ?_
  show Tj G (d + 1) 193 (Pi h) (fy_B_steerOf v0 v1 v2) 0 [some (.int v0), some (.int v1), some (.int v2)] [] h
  unfold fy_B_steerOf
  refine tq_iload_n dX0_steerOf_0 rfl ?_
  refine tq_iconst (v := 3) dX0_steerOf_1 (by decide) ?_
  refine tq_iload_n dX0_steerOf_2 rfl ?_
  refine tq_iconst (v := 1) dX0_steerOf_3 (by decide) ?_
  refine tq_isub dX0_steerOf_4 ?_
  refine tq_iload_n dX0_steerOf_5 rfl ?_
  refine tq_isub dX0_steerOf_6 ?_
  refine ty_s2_pi dX0_steerOf_7 rfl rfl rfl (Nat.le_of_ble_eq_true rfl) (wfy_B_power (d := d) _ _) (fun p7 => ?_)
  refine tq_idiv dX0_steerOf_10 (fun x10 => ?_)
  refine tq_iconst (v := 3) dX0_steerOf_11 (by decide) ?_
  refine tq_irem dX0_steerOf_12 (fun x12 => ?_)
  refine tq_iconst (v := 1) dX0_steerOf_13 (by decide) ?_
  refine tq_isub dX0_steerOf_14 ?_
  exact tq_ireturn dX0_steerOf_15 rfl rfl
abbrev Pfy_B_goRow_b17 (G : ai_G) (d : Nat) (h0 : ai_H) (v0 : Nat) (v1 : Int32) (v2 : Int32) (v3 : Int32) : (Int32 × Int32 × yS) ⊕ ((Int32 × yS) ⊕ (Int32 × yS)) → Option ai_R → Prop := Sum.elim (fun (q : Int32 × Int32 × yS) run => ∃ J : JV, run = ai_run G (d + 130) 194 17 [some (.ref v0), some (.int v1), some (.int v2), some (.int v3), some (.int q.1), some (.int q.2.1), J.1] [] (yH q.2.2 h0)) (Sum.elim (fun (q : Int32 × yS) run => ∃ J : JV × JV × JV × JV × JV × JV, run = ai_run G (d + 130) 194 72 [J.1.1, J.2.1.1, J.2.2.1.1, J.2.2.2.1.1, some (.int q.1), J.2.2.2.2.1.1, J.2.2.2.2.2.1] [] (yH q.2 h0)) (PyI h0))
theorem Bfy_B_goRow_b17 {G : ai_G} {d : Nat} {h0 : ai_H} (hO : hOld G h0) (v0 : Nat) (v1 : Int32) (v2 : Int32) (v3 : Int32) (b0 : Int32) (b1 : Int32) (b2 : yS) (J : JV) : Tj G (d + 130) 194 (Pfy_B_goRow_b17 G d h0 v0 v1 v2 v3) (some (.inl (b0, b1, b2))) 17 [some (.ref v0), some (.int v1), some (.int v2), some (.int v3), some (.int b0), some (.int b1), J.1] [] (yH b2 h0) := tq_back J rfl rfl
theorem Efy_B_goRow_b17 {G : ai_G} {d : Nat} {h0 : ai_H} (hO : hOld G h0) (v0 : Nat) (v1 : Int32) (v2 : Int32) (v3 : Int32) (b0 : Int32) (b1 : yS) (J : JV × JV × JV × JV × JV × JV) : Tj G (d + 130) 194 (Pfy_B_goRow_b17 G d h0 v0 v1 v2 v3) (some (.inr (.inl (b0, b1)))) 72 [J.1.1, J.2.1.1, J.2.2.1.1, J.2.2.2.1.1, some (.int b0), J.2.2.2.2.1.1, J.2.2.2.2.2.1] [] (yH b1 h0) := tq_exit2 J rfl rfl
theorem wfy_B_goRow_b17 {G : ai_G} {d : Nat} {h0 : ai_H} (hO : hOld G h0) (v0 : Nat) (v1 : Int32) (v2 : Int32) (v3 : Int32) (q : Int32 × Int32 × yS) (J : JV) : Tj G (d + 130) 194 (Pfy_B_goRow_b17 G d h0 v0 v1 v2 v3) (fy_B_goRow_b17 G v0 v1 v2 v3 q) 17 [some (.ref v0), some (.int v1), some (.int v2), some (.int v3), some (.int q.1), some (.int q.2.1), J.1] [] (yH q.2.2 h0) := by
  unfold fy_B_goRow_b17
  refine tq_iload dX0_goRow_17 rfl ?_
  refine tq_iload_n dX0_goRow_19 rfl ?_
  refine tq_icmp_ge dX0_goRow_20 rfl ?_ ?_
  · exact Efy_B_goRow_b17 hO _ _ _ _ _ _ (⟨some (.ref v0), rfl⟩, ⟨some (.int v1), rfl⟩, ⟨some (.int v2), rfl⟩, ⟨some (.int v3), rfl⟩, ⟨some (.int q.2.1), rfl⟩, J)
  · refine tq_iload_n dX0_goRow_23 rfl ?_
    refine tq_iload_n dX0_goRow_24 rfl ?_
    refine tq_iload dX0_goRow_25 rfl ?_
    refine ty_s3_pi dX0_goRow_27 rfl rfl rfl (Nat.le_of_ble_eq_true rfl) (wfy_B_steerOf (d := d + 128) _ _ _) (fun p27 => ?_)
    refine tq_istore (L' := [_, _, _, _, _, _, _]) dX0_goRow_30 (Nat.le_of_ble_eq_true rfl) rfl ?_
    refine tq_iload dX0_goRow_32 rfl ?_
    refine tq_iload dX0_goRow_34 rfl ?_
    refine tq_iabs dX0_goRow_36 rfl rfl rfl rfl (Nat.le_of_ble_eq_true rfl) ?_
    refine tq_iadd dX0_goRow_39 ?_
    refine tq_istore (L' := [_, _, _, _, _, _, _]) dX0_goRow_40 (Nat.le_of_ble_eq_true rfl) rfl ?_
    refine tq_aload_n dX0_goRow_42 rfl ?_
    refine ty_gR dX0_goRow_43 rfl rfl (fun x43 => ?_)
    refine tq_aload_n dX0_goRow_46 rfl ?_
    refine ty_gR dX0_goRow_47 rfl rfl (fun x47 => ?_)
    refine tq_iload_n dX0_goRow_50 rfl ?_
    refine tq_iload dX0_goRow_51 rfl ?_
    refine tq_iconst (v := 1) dX0_goRow_53 (by decide) ?_
    refine tq_iconst (v := 0) dX0_goRow_54 (by decide) ?_
    refine ty_v5_I dX0_goRow_55 rfl rfl rfl (Nat.le_of_ble_eq_true rfl) (wfy_State_stroke hO (d := d) _ _ _ _ _ _ _) (fun p55 => ?_)
    refine tq_iconst (v := 2) dX0_goRow_58 (by decide) ?_
    refine tq_irem dX0_goRow_59 (fun x59 => ?_)
    refine tq_iconst (v := 1) dX0_goRow_60 (by decide) ?_
    refine tq_icmp_ne dX0_goRow_61 rfl ?_ ?_
    · refine tq_iinc (v := (q.2.1 + 1)) (L' := [_, _, _, _, _, _, _]) dX0_goRow_66 rfl (Nat.le_of_ble_eq_true rfl) rfl rfl ?_
      refine tq_goto dX0_goRow_69 rfl ?_
      exact Bfy_B_goRow_b17 hO _ _ _ _ _ _ _ ⟨some (.int p27), rfl⟩
    · refine tq_iconst (v := (-1)) dX0_goRow_64 (by decide) ?_
      exact tq_ireturn dX0_goRow_65 rfl rfl
theorem Sfy_B_goRow_b17 {G : ai_G} {d : Nat} {h0 : ai_H} (hO : hOld G h0) {α : Type} {P : α → Option ai_R → Prop} (v0 : Nat) (v1 : Int32) (v2 : Int32) (v3 : Int32) (b0 : Int32) (b1 : Int32) (b2 : yS) (J : JV) {r : (Int32 × yS) → Option α} {r2 : (Int32 × yS) → Option α} (k2 : ∀ v run, (PyI h0) v run → ∀ a, r2 v = some a → P a run) (kk : ∀ (q : Int32 × yS) (J : JV × JV × JV × JV × JV × JV), Tj G (d + 130) 194 P (r q) 72 [J.1.1, J.2.1.1, J.2.2.1.1, J.2.2.2.1.1, some (.int q.1), J.2.2.2.2.1.1, J.2.2.2.2.2.1] [] (yH q.2 h0)) : Tj G (d + 130) 194 P ((lp (fy_B_goRow_b17 G v0 v1 v2 v3) (b0, b1, b2)).bind (Sum.elim r r2)) 17 [some (.ref v0), some (.int v1), some (.int v2), some (.int v3), some (.int b0), some (.int b1), J.1] [] (yH b2 h0) := tq_lp2 (J := J) (fun q J => wfy_B_goRow_b17 hO v0 v1 v2 v3 q J) rfl rfl k2 kk
theorem wfy_B_goRow {G : ai_G} {d : Nat} {h0 : ai_H} (hO : hOld G h0) (s : yS) (v0 : Nat) (v1 : Int32) (v2 : Int32) (v3 : Int32) : ∀ r, fy_B_goRow G s v0 v1 v2 v3 = some r → (PyI h0) r (ai_call G (d + 131) 194 [.ref v0, .int v1, .int v2, .int v3] (yH s h0)) := by
  refine tq_meth (P := (PyI h0)) (d := (d + 130)) (Nat.le_of_ble_eq_true rfl) ?_
  show Tj G (d + 130) 194 (PyI h0) (fy_B_goRow G s v0 v1 v2 v3) 0 [some (.ref v0), some (.int v1), some (.int v2), some (.int v3), none, none, none] [] (yH s h0)
  unfold fy_B_goRow
  refine tq_aload_n dX0_goRow_0 rfl ?_
  refine ty_gR dX0_goRow_1 rfl rfl (fun x1 => ?_)
  refine tq_aload_n dX0_goRow_4 rfl ?_
  refine ty_gR dX0_goRow_5 rfl rfl (fun x5 => ?_)
  refine ty_v1_V dX0_goRow_8 rfl rfl rfl (Nat.le_of_ble_eq_true rfl) (wfy_State_of hO (d := d + 129) _ _ _) (fun p8 => ?_)
  refine tq_iconst (v := 0) dX0_goRow_11 (by decide) ?_
  refine tq_istore (L' := [_, _, _, _, _, _, _]) dX0_goRow_12 (Nat.le_of_ble_eq_true rfl) rfl ?_
  refine tq_iconst (v := 0) dX0_goRow_14 (by decide) ?_
  refine tq_istore (L' := [_, _, _, _, _, _, _]) dX0_goRow_15 (Nat.le_of_ble_eq_true rfl) rfl ?_
  refine Sfy_B_goRow_b17 hO _ _ _ _ _ _ _ ⟨none, rfl⟩ (fun v run hv a ha => by cases ha; exact hv) (fun q17 J17 => ?_)
  refine tq_iload dX0_goRow_72 rfl ?_
  exact tq_ireturn dX0_goRow_74 rfl rfl
abbrev Pfy_B_landingsOf_b11 (G : ai_G) (d : Nat) (h0 : ai_H) (v0 : Nat) (v1 : Int32) (v2 : Int32) : (Int32 × Int32 × yS) ⊕ (Int32 × yS) → Option ai_R → Prop := Sum.elim (fun (q : Int32 × Int32 × yS) run => ∃ J : Unit, run = ai_run G (d + 131) 195 11 [some (.ref v0), some (.int v1), some (.int v2), some (.int q.1), some (.int q.2.1)] [] (yH q.2.2 h0)) (fun (q : Int32 × yS) run => ∃ J : JV × JV × JV × JV, run = ai_run G (d + 131) 195 52 [J.1.1, J.2.1.1, J.2.2.1.1, some (.int q.1), J.2.2.2.1] [] (yH q.2 h0))
theorem Bfy_B_landingsOf_b11 {G : ai_G} {d : Nat} {h0 : ai_H} (hO : hOld G h0) (v0 : Nat) (v1 : Int32) (v2 : Int32) (b0 : Int32) (b1 : Int32) (b2 : yS) (J : Unit) : Tj G (d + 131) 195 (Pfy_B_landingsOf_b11 G d h0 v0 v1 v2) (some (.inl (b0, b1, b2))) 11 [some (.ref v0), some (.int v1), some (.int v2), some (.int b0), some (.int b1)] [] (yH b2 h0) := tq_back J rfl rfl
theorem Efy_B_landingsOf_b11 {G : ai_G} {d : Nat} {h0 : ai_H} (hO : hOld G h0) (v0 : Nat) (v1 : Int32) (v2 : Int32) (b0 : Int32) (b1 : yS) (J : JV × JV × JV × JV) : Tj G (d + 131) 195 (Pfy_B_landingsOf_b11 G d h0 v0 v1 v2) (some (.inr (b0, b1))) 52 [J.1.1, J.2.1.1, J.2.2.1.1, some (.int b0), J.2.2.2.1] [] (yH b1 h0) := tq_exit J rfl rfl
theorem wfy_B_landingsOf_b11 {G : ai_G} {d : Nat} {h0 : ai_H} (hO : hOld G h0) (v0 : Nat) (v1 : Int32) (v2 : Int32) (q : Int32 × Int32 × yS) (J : Unit) : Tj G (d + 131) 195 (Pfy_B_landingsOf_b11 G d h0 v0 v1 v2) (fy_B_landingsOf_b11 G v0 v1 v2 q) 11 [some (.ref v0), some (.int v1), some (.int v2), some (.int q.1), some (.int q.2.1)] [] (yH q.2.2 h0) := by
  unfold fy_B_landingsOf_b11
  refine tq_iload dX0_landingsOf_11 rfl ?_
  refine tq_iconst (v := 3) dX0_landingsOf_13 (by decide) ?_
  refine tq_iload_n dX0_landingsOf_14 rfl ?_
  refine ty_s2_pi dX0_landingsOf_15 rfl rfl rfl (Nat.le_of_ble_eq_true rfl) (wfy_B_power (d := d + 130) _ _) (fun p15 => ?_)
  refine tq_icmp_ge dX0_landingsOf_18 rfl ?_ ?_
  · exact Efy_B_landingsOf_b11 hO _ _ _ _ _ (⟨some (.ref v0), rfl⟩, ⟨some (.int v1), rfl⟩, ⟨some (.int v2), rfl⟩, ⟨some (.int q.2.1), rfl⟩)
  · refine tq_aload_n dX0_landingsOf_21 rfl ?_
    refine tq_iload_n dX0_landingsOf_22 rfl ?_
    refine tq_iload dX0_landingsOf_23 rfl ?_
    refine tq_iload_n dX0_landingsOf_25 rfl ?_
    refine ty_v3_I dX0_landingsOf_26 rfl rfl rfl (Nat.le_of_ble_eq_true rfl) (wfy_B_goRow hO (d := d) _ _ _ _ _) (fun p26 => ?_)
    refine tq_if_lt dX0_landingsOf_29 rfl ?_ ?_
    · refine tq_iinc (v := (q.2.1 + 1)) (L' := [_, _, _, _, _]) dX0_landingsOf_46 rfl (Nat.le_of_ble_eq_true rfl) rfl rfl ?_
      refine tq_goto dX0_landingsOf_49 rfl ?_
      exact Bfy_B_landingsOf_b11 hO _ _ _ _ _ _ ()
    · refine tq_iload_n dX0_landingsOf_32 rfl ?_
      refine tq_iconst (v := 1) dX0_landingsOf_33 (by decide) ?_
      refine tq_aload_n dX0_landingsOf_34 rfl ?_
      refine ty_gR dX0_landingsOf_35 rfl rfl (fun x35 => ?_)
      refine ty_gR dX0_landingsOf_38 rfl rfl (fun x38 => ?_)
      refine tq_iload_n dX0_landingsOf_41 rfl ?_
      refine ty_iald dX0_landingsOf_42 (fun x42 => ?_)
      refine tq_ishl dX0_landingsOf_43 ?_
      refine tq_ior dX0_landingsOf_44 ?_
      refine tq_istore_n (L' := [_, _, _, _, _]) dX0_landingsOf_45 (Nat.le_of_ble_eq_true rfl) rfl ?_
      refine tq_iinc (v := (q.2.1 + 1)) (L' := [_, _, _, _, _]) dX0_landingsOf_46 rfl (Nat.le_of_ble_eq_true rfl) rfl rfl ?_
      refine tq_goto dX0_landingsOf_49 rfl ?_
      exact Bfy_B_landingsOf_b11 hO _ _ _ _ _ _ ()
theorem Sfy_B_landingsOf_b11 {G : ai_G} {d : Nat} {h0 : ai_H} (hO : hOld G h0) {α : Type} {P : α → Option ai_R → Prop} (v0 : Nat) (v1 : Int32) (v2 : Int32) (b0 : Int32) (b1 : Int32) (b2 : yS) (J : Unit) {r : (Int32 × yS) → Option α} (kk : ∀ (q : Int32 × yS) (J : JV × JV × JV × JV), Tj G (d + 131) 195 P (r q) 52 [J.1.1, J.2.1.1, J.2.2.1.1, some (.int q.1), J.2.2.2.1] [] (yH q.2 h0)) : Tj G (d + 131) 195 P ((lp (fy_B_landingsOf_b11 G v0 v1 v2) (b0, b1, b2)).bind r) 11 [some (.ref v0), some (.int v1), some (.int v2), some (.int b0), some (.int b1)] [] (yH b2 h0) := tq_lp1 (J := J) (fun q J => wfy_B_landingsOf_b11 hO v0 v1 v2 q J) rfl rfl kk
theorem wfy_B_landingsOf {G : ai_G} {d : Nat} {h0 : ai_H} (hO : hOld G h0) (s : yS) (v0 : Nat) (v1 : Int32) : ∀ r, fy_B_landingsOf G s v0 v1 = some r → (PyI h0) r (ai_call G (d + 132) 195 [.ref v0, .int v1] (yH s h0)) := by
  refine tq_meth (P := (PyI h0)) (d := (d + 131)) (Nat.le_of_ble_eq_true rfl) ?_
  show Tj G (d + 131) 195 (PyI h0) (fy_B_landingsOf G s v0 v1) 0 [some (.ref v0), some (.int v1), none, none, none] [] (yH s h0)
  unfold fy_B_landingsOf
  refine tq_aload_n dX0_landingsOf_0 rfl ?_
  refine tq_iload_n dX0_landingsOf_1 rfl ?_
  refine ty_v1_i dX0_landingsOf_2 rfl rfl rfl (Nat.le_of_ble_eq_true rfl) (wfy_B_strokesLeft hO (d := d + 130) _ _ _) (fun p2 => ?_)
  refine tq_istore_n (L' := [_, _, _, _, _]) dX0_landingsOf_5 (Nat.le_of_ble_eq_true rfl) rfl ?_
  refine tq_iconst (v := 0) dX0_landingsOf_6 (by decide) ?_
  refine tq_istore_n (L' := [_, _, _, _, _]) dX0_landingsOf_7 (Nat.le_of_ble_eq_true rfl) rfl ?_
  refine tq_iconst (v := 0) dX0_landingsOf_8 (by decide) ?_
  refine tq_istore (L' := [_, _, _, _, _]) dX0_landingsOf_9 (Nat.le_of_ble_eq_true rfl) rfl ?_
  refine Sfy_B_landingsOf_b11 hO _ _ _ _ _ _ () (fun q11 J11 => ?_)
  refine tq_iload_n dX0_landingsOf_52 rfl ?_
  exact tq_ireturn dX0_landingsOf_53 rfl rfl
theorem wfy_B_landings {G : ai_G} {d : Nat} {h0 : ai_H} (hO : hOld G h0) (s : yS) (v0 : Nat) (v1 : Int32) : ∀ r, fy_B_landings G s v0 v1 = some r → (PyI h0) r (ai_call G (d + 133) 196 [.ref v0, .int v1] (yH s h0)) := by
  refine tq_meth (P := (PyI h0)) (d := (d + 132)) (Nat.le_of_ble_eq_true rfl) ?_
  show Tj G (d + 132) 196 (PyI h0) (fy_B_landings G s v0 v1) 0 [some (.ref v0), some (.int v1)] [] (yH s h0)
  unfold fy_B_landings
  refine tq_aload_n dX0_landings_0 rfl ?_
  refine tq_iload_n dX0_landings_1 rfl ?_
  refine ty_v1_i dX0_landings_2 rfl rfl rfl (Nat.le_of_ble_eq_true rfl) (wfy_B_isBoard hO (d := d + 129) _ _ _) (fun p2 => ?_)
  refine tq_if_eq dX0_landings_5 rfl ?_ ?_
  · refine tq_iconst (v := (-1)) dX0_landings_16 (by decide) ?_
    exact tq_ireturn dX0_landings_17 rfl rfl
  · refine tq_aload_n dX0_landings_8 rfl ?_
    refine tq_iload_n dX0_landings_9 rfl ?_
    refine ty_v1_I dX0_landings_10 rfl rfl rfl (Nat.le_of_ble_eq_true rfl) (wfy_B_landingsOf hO (d := d) _ _ _) (fun p10 => ?_)
    refine tq_goto dX0_landings_13 rfl ?_
    exact tq_ireturn dX0_landings_17 rfl rfl
theorem wfy_B_straightOn {G : ai_G} {d : Nat} {h : ai_H} (v0 : Int32) : ∀ r, fy_B_straightOn v0 = some r → (Pi h) r (ai_call G (d + 2) 202 [.int v0] h) := by
  refine tq_meth (P := (Pi h)) (d := (d + 1)) (Nat.le_of_ble_eq_true rfl) ?_
  show Tj G (d + 1) 202 (Pi h) (fy_B_straightOn v0) 0 [some (.int v0)] [] h
  unfold fy_B_straightOn
  refine tq_iconst (v := 3) dX0_straightOn_0 (by decide) ?_
  refine tq_iload_n dX0_straightOn_1 rfl ?_
  refine ty_s2_pi dX0_straightOn_2 rfl rfl rfl (Nat.le_of_ble_eq_true rfl) (wfy_B_power (d := d) _ _) (fun p2 => ?_)
  refine tq_iconst (v := 1) dX0_straightOn_5 (by decide) ?_
  refine tq_isub dX0_straightOn_6 ?_
  refine tq_iconst (v := 2) dX0_straightOn_7 (by decide) ?_
  refine tq_idiv dX0_straightOn_8 (fun x8 => ?_)
  exact tq_ireturn dX0_straightOn_9 rfl rfl
theorem wfy_B_drift {G : ai_G} {d : Nat} {h0 : ai_H} (hO : hOld G h0) (s : yS) (v0 : Nat) (v1 : Int32) : ∀ r, fy_B_drift G s v0 v1 = some r → (PyI h0) r (ai_call G (d + 132) 203 [.ref v0, .int v1] (yH s h0)) := by
  refine tq_meth (P := (PyI h0)) (d := (d + 131)) (Nat.le_of_ble_eq_true rfl) ?_
  show Tj G (d + 131) 203 (PyI h0) (fy_B_drift G s v0 v1) 0 [some (.ref v0), some (.int v1), none] [] (yH s h0)
  unfold fy_B_drift
  refine tq_aload_n dX0_drift_0 rfl ?_
  refine tq_iload_n dX0_drift_1 rfl ?_
  refine ty_v1_i dX0_drift_2 rfl rfl rfl (Nat.le_of_ble_eq_true rfl) (wfy_B_isBoard hO (d := d + 128) _ _ _) (fun p2 => ?_)
  refine tq_if_ne dX0_drift_5 rfl ?_ ?_
  · refine tq_aload_n dX0_drift_10 rfl ?_
    refine tq_iload_n dX0_drift_11 rfl ?_
    refine ty_v1_i dX0_drift_12 rfl rfl rfl (Nat.le_of_ble_eq_true rfl) (wfy_B_strokesLeft hO (d := d + 130) _ _ _) (fun p12 => ?_)
    refine tq_istore_n (L' := [_, _, _]) dX0_drift_15 (Nat.le_of_ble_eq_true rfl) rfl ?_
    refine tq_aload_n dX0_drift_16 rfl ?_
    refine tq_iload_n dX0_drift_17 rfl ?_
    refine tq_iload_n dX0_drift_18 rfl ?_
    refine ty_s1_pi dX0_drift_19 rfl rfl rfl (Nat.le_of_ble_eq_true rfl) (wfy_B_straightOn (d := d + 129) _) (fun p19 => ?_)
    refine tq_iload_n dX0_drift_22 rfl ?_
    refine ty_v3_I dX0_drift_23 rfl rfl rfl (Nat.le_of_ble_eq_true rfl) (wfy_B_goRow hO (d := d) _ _ _ _ _) (fun p23 => ?_)
    refine tq_if_ge dX0_drift_26 rfl ?_ ?_
    · refine tq_aload_n dX0_drift_33 rfl ?_
      refine ty_gR dX0_drift_34 rfl rfl (fun x34 => ?_)
      refine ty_gR dX0_drift_37 rfl rfl (fun x37 => ?_)
      refine tq_iload_n dX0_drift_40 rfl ?_
      refine ty_iald dX0_drift_41 (fun x41 => ?_)
      exact tq_ireturn dX0_drift_42 rfl rfl
    · refine tq_iconst (v := (-1)) dX0_drift_29 (by decide) ?_
      refine tq_goto dX0_drift_30 rfl ?_
      exact tq_ireturn dX0_drift_42 rfl rfl
  · refine tq_iconst (v := (-1)) dX0_drift_8 (by decide) ?_
    exact tq_ireturn dX0_drift_9 rfl rfl
abbrev Pfy_B_rows_b21 (G : ai_G) (d : Nat) (h0 : ai_H) (v0 : Nat) (v1 : Int32) (v2 : Int32) : (Int32 × Int32 × yS) ⊕ (Int32 × yS) → Option ai_R → Prop := Sum.elim (fun (q : Int32 × Int32 × yS) run => ∃ J : Unit, run = ai_run G (d + 131) 206 21 [some (.ref v0), some (.int v1), some (.int v2), some (.int q.1), some (.int q.2.1)] [] (yH q.2.2 h0)) (fun (q : Int32 × yS) run => ∃ J : JV × JV × JV × JV, run = ai_run G (d + 131) 206 56 [J.1.1, J.2.1.1, J.2.2.1.1, some (.int q.1), J.2.2.2.1] [] (yH q.2 h0))
theorem Bfy_B_rows_b21 {G : ai_G} {d : Nat} {h0 : ai_H} (hO : hOld G h0) (v0 : Nat) (v1 : Int32) (v2 : Int32) (b0 : Int32) (b1 : Int32) (b2 : yS) (J : Unit) : Tj G (d + 131) 206 (Pfy_B_rows_b21 G d h0 v0 v1 v2) (some (.inl (b0, b1, b2))) 21 [some (.ref v0), some (.int v1), some (.int v2), some (.int b0), some (.int b1)] [] (yH b2 h0) := tq_back J rfl rfl
theorem Efy_B_rows_b21 {G : ai_G} {d : Nat} {h0 : ai_H} (hO : hOld G h0) (v0 : Nat) (v1 : Int32) (v2 : Int32) (b0 : Int32) (b1 : yS) (J : JV × JV × JV × JV) : Tj G (d + 131) 206 (Pfy_B_rows_b21 G d h0 v0 v1 v2) (some (.inr (b0, b1))) 56 [J.1.1, J.2.1.1, J.2.2.1.1, some (.int b0), J.2.2.2.1] [] (yH b1 h0) := tq_exit J rfl rfl
theorem wfy_B_rows_b21 {G : ai_G} {d : Nat} {h0 : ai_H} (hO : hOld G h0) (v0 : Nat) (v1 : Int32) (v2 : Int32) (q : Int32 × Int32 × yS) (J : Unit) : Tj G (d + 131) 206 (Pfy_B_rows_b21 G d h0 v0 v1 v2) (fy_B_rows_b21 G v0 v1 v2 q) 21 [some (.ref v0), some (.int v1), some (.int v2), some (.int q.1), some (.int q.2.1)] [] (yH q.2.2 h0) := by
  unfold fy_B_rows_b21
  refine tq_iload dX0_rows_21 rfl ?_
  refine tq_iconst (v := 3) dX0_rows_23 (by decide) ?_
  refine tq_iload_n dX0_rows_24 rfl ?_
  refine ty_s2_pi dX0_rows_25 rfl rfl rfl (Nat.le_of_ble_eq_true rfl) (wfy_B_power (d := d + 130) _ _) (fun p25 => ?_)
  refine tq_icmp_ge dX0_rows_28 rfl ?_ ?_
  · exact Efy_B_rows_b21 hO _ _ _ _ _ (⟨some (.ref v0), rfl⟩, ⟨some (.int v1), rfl⟩, ⟨some (.int v2), rfl⟩, ⟨some (.int q.2.1), rfl⟩)
  · refine tq_iload_n dX0_rows_31 rfl ?_
    refine tq_aload_n dX0_rows_32 rfl ?_
    refine tq_iload_n dX0_rows_33 rfl ?_
    refine tq_iload dX0_rows_34 rfl ?_
    refine tq_iload_n dX0_rows_36 rfl ?_
    refine ty_v3_I dX0_rows_37 rfl rfl rfl (Nat.le_of_ble_eq_true rfl) (wfy_B_goRow hO (d := d) _ _ _ _ _) (fun p37 => ?_)
    refine tq_if_lt dX0_rows_40 rfl ?_ ?_
    · refine tq_iconst (v := 0) dX0_rows_47 (by decide) ?_
      refine tq_iadd dX0_rows_48 ?_
      refine tq_istore_n (L' := [_, _, _, _, _]) dX0_rows_49 (Nat.le_of_ble_eq_true rfl) rfl ?_
      refine tq_iinc (v := (q.2.1 + 1)) (L' := [_, _, _, _, _]) dX0_rows_50 rfl (Nat.le_of_ble_eq_true rfl) rfl rfl ?_
      refine tq_goto dX0_rows_53 rfl ?_
      exact Bfy_B_rows_b21 hO _ _ _ _ _ _ ()
    · refine tq_iconst (v := 1) dX0_rows_43 (by decide) ?_
      refine tq_goto dX0_rows_44 rfl ?_
      refine tq_iadd dX0_rows_48 ?_
      refine tq_istore_n (L' := [_, _, _, _, _]) dX0_rows_49 (Nat.le_of_ble_eq_true rfl) rfl ?_
      refine tq_iinc (v := (q.2.1 + 1)) (L' := [_, _, _, _, _]) dX0_rows_50 rfl (Nat.le_of_ble_eq_true rfl) rfl rfl ?_
      refine tq_goto dX0_rows_53 rfl ?_
      exact Bfy_B_rows_b21 hO _ _ _ _ _ _ ()
theorem Sfy_B_rows_b21 {G : ai_G} {d : Nat} {h0 : ai_H} (hO : hOld G h0) {α : Type} {P : α → Option ai_R → Prop} (v0 : Nat) (v1 : Int32) (v2 : Int32) (b0 : Int32) (b1 : Int32) (b2 : yS) (J : Unit) {r : (Int32 × yS) → Option α} (kk : ∀ (q : Int32 × yS) (J : JV × JV × JV × JV), Tj G (d + 131) 206 P (r q) 56 [J.1.1, J.2.1.1, J.2.2.1.1, some (.int q.1), J.2.2.2.1] [] (yH q.2 h0)) : Tj G (d + 131) 206 P ((lp (fy_B_rows_b21 G v0 v1 v2) (b0, b1, b2)).bind r) 21 [some (.ref v0), some (.int v1), some (.int v2), some (.int b0), some (.int b1)] [] (yH b2 h0) := tq_lp1 (J := J) (fun q J => wfy_B_rows_b21 hO v0 v1 v2 q J) rfl rfl kk
theorem wfy_B_rows {G : ai_G} {d : Nat} {h0 : ai_H} (hO : hOld G h0) (s : yS) (v0 : Nat) (v1 : Int32) : ∀ r, fy_B_rows G s v0 v1 = some r → (PyI h0) r (ai_call G (d + 132) 206 [.ref v0, .int v1] (yH s h0)) := by
  refine tq_meth (P := (PyI h0)) (d := (d + 131)) (Nat.le_of_ble_eq_true rfl) ?_
  show Tj G (d + 131) 206 (PyI h0) (fy_B_rows G s v0 v1) 0 [some (.ref v0), some (.int v1), none, none, none] [] (yH s h0)
  unfold fy_B_rows
  refine tq_aload_n dX0_rows_0 rfl ?_
  refine tq_iload_n dX0_rows_1 rfl ?_
  refine ty_v1_i dX0_rows_2 rfl rfl rfl (Nat.le_of_ble_eq_true rfl) (wfy_B_isBoard hO (d := d + 128) _ _ _) (fun p2 => ?_)
  refine tq_if_ne dX0_rows_5 rfl ?_ ?_
  · refine tq_aload_n dX0_rows_10 rfl ?_
    refine tq_iload_n dX0_rows_11 rfl ?_
    refine ty_v1_i dX0_rows_12 rfl rfl rfl (Nat.le_of_ble_eq_true rfl) (wfy_B_strokesLeft hO (d := d + 130) _ _ _) (fun p12 => ?_)
    refine tq_istore_n (L' := [_, _, _, _, _]) dX0_rows_15 (Nat.le_of_ble_eq_true rfl) rfl ?_
    refine tq_iconst (v := 0) dX0_rows_16 (by decide) ?_
    refine tq_istore_n (L' := [_, _, _, _, _]) dX0_rows_17 (Nat.le_of_ble_eq_true rfl) rfl ?_
    refine tq_iconst (v := 0) dX0_rows_18 (by decide) ?_
    refine tq_istore (L' := [_, _, _, _, _]) dX0_rows_19 (Nat.le_of_ble_eq_true rfl) rfl ?_
    refine Sfy_B_rows_b21 hO _ _ _ _ _ _ () (fun q21 J21 => ?_)
    refine tq_iload_n dX0_rows_56 rfl ?_
    exact tq_ireturn dX0_rows_57 rfl rfl
  · refine tq_iconst (v := (-1)) dX0_rows_8 (by decide) ?_
    exact tq_ireturn dX0_rows_9 rfl rfl
theorem wfy_Coolest_costOf {G : ai_G} {d : Nat} {h0 : ai_H} (hO : hOld G h0) (s : yS) (v0 : Nat) (v1 : Nat) (v2 : Int32) (v3 : Int32) : ∀ r, fy_Coolest_costOf G s v0 v1 v2 v3 = some r → (Pi (yH s h0)) r (ai_call G (d + 1) 208 [.ref v0, .ref v1, .int v2, .int v3] (yH s h0)) := by
  refine tq_meth (P := (Pi (yH s h0))) (d := d) (Nat.le_of_ble_eq_true rfl) ?_
  show Tj G d 208 (Pi (yH s h0)) (fy_Coolest_costOf G s v0 v1 v2 v3) 0 [some (.ref v0), some (.ref v1), some (.int v2), some (.int v3)] [] (yH s h0)
  unfold fy_Coolest_costOf
  refine tq_aload_n dX5_costOf_0 rfl ?_
  refine ty_gR dX5_costOf_1 rfl rfl (fun x1 => ?_)
  refine tq_iload_n dX5_costOf_4 rfl ?_
  refine ty_iald dX5_costOf_5 (fun x5 => ?_)
  refine tq_aload_n dX5_costOf_6 rfl ?_
  refine ty_gR dX5_costOf_7 rfl rfl (fun x7 => ?_)
  refine ty_gR dX5_costOf_10 rfl rfl (fun x10 => ?_)
  refine ty_gR dX5_costOf_13 rfl rfl (fun x13 => ?_)
  refine tq_iload_n dX5_costOf_16 rfl ?_
  refine ty_iald dX5_costOf_17 (fun x17 => ?_)
  refine tq_isub dX5_costOf_18 ?_
  refine tq_bipush (v := 100) dX5_costOf_19 (by decide) ?_
  refine tq_imul dX5_costOf_21 ?_
  refine tq_aload_n dX5_costOf_22 rfl ?_
  refine ty_gR dX5_costOf_23 rfl rfl (fun x23 => ?_)
  refine tq_iload_n dX5_costOf_26 rfl ?_
  refine ty_iald dX5_costOf_27 (fun x27 => ?_)
  refine tq_iadd dX5_costOf_28 ?_
  exact tq_ireturn dX5_costOf_29 rfl rfl
theorem wfy_Straightest_costOf {G : ai_G} {d : Nat} {h0 : ai_H} (hO : hOld G h0) (s : yS) (v0 : Nat) (v1 : Nat) (v2 : Int32) (v3 : Int32) : ∀ r, fy_Straightest_costOf G s v0 v1 v2 v3 = some r → (Pi (yH s h0)) r (ai_call G (d + 1) 209 [.ref v0, .ref v1, .int v2, .int v3] (yH s h0)) := by
  refine tq_meth (P := (Pi (yH s h0))) (d := d) (Nat.le_of_ble_eq_true rfl) ?_
  show Tj G d 209 (Pi (yH s h0)) (fy_Straightest_costOf G s v0 v1 v2 v3) 0 [some (.ref v0), some (.ref v1), some (.int v2), some (.int v3)] [] (yH s h0)
  unfold fy_Straightest_costOf
  refine tq_aload_n dX6_costOf_0 rfl ?_
  refine ty_gR dX6_costOf_1 rfl rfl (fun x1 => ?_)
  refine tq_iload_n dX6_costOf_4 rfl ?_
  refine ty_iald dX6_costOf_5 (fun x5 => ?_)
  refine tq_aload_n dX6_costOf_6 rfl ?_
  refine ty_gI dX6_costOf_7 rfl rfl (fun x7 => ?_)
  refine tq_icmp_ne dX6_costOf_10 rfl ?_ ?_
  · refine tq_iconst (v := (-1)) dX6_costOf_17 (by decide) ?_
    exact tq_ireturn dX6_costOf_18 rfl rfl
  · refine tq_iload_n dX6_costOf_13 rfl ?_
    refine tq_goto dX6_costOf_14 rfl ?_
    exact tq_ireturn dX6_costOf_18 rfl rfl
abbrev Pfy_Wish_seek_b31 (G : ai_G) (d : Nat) (h0 : ai_H) (v0 : Nat) (v1 : Int32) (v2 : Int32) : (Int32 × yS) ⊕ yS → Option ai_R → Prop := Sum.elim (fun (q : Int32 × yS) run => ∃ J : JV × JV, run = ai_run G (d + 131) 210 31 [some (.ref v0), some (.int v1), some (.int v2), some (.int q.1), J.1.1, J.2.1] [] (yH q.2 h0)) (fun (q : yS) run => ∃ J : JV × JV × JV × JV, run = ai_run G (d + 131) 210 118 [some (.ref v0), J.1.1, some (.int v2), J.2.1.1, J.2.2.1.1, J.2.2.2.1] [] (yH q h0))
theorem Bfy_Wish_seek_b31 {G : ai_G} {d : Nat} {h0 : ai_H} (hO : hOld G h0) (v0 : Nat) (v1 : Int32) (v2 : Int32) (b0 : Int32) (b1 : yS) (J : JV × JV) : Tj G (d + 131) 210 (Pfy_Wish_seek_b31 G d h0 v0 v1 v2) (some (.inl (b0, b1))) 31 [some (.ref v0), some (.int v1), some (.int v2), some (.int b0), J.1.1, J.2.1] [] (yH b1 h0) := tq_back J rfl rfl
theorem Efy_Wish_seek_b31 {G : ai_G} {d : Nat} {h0 : ai_H} (hO : hOld G h0) (v0 : Nat) (v1 : Int32) (v2 : Int32) (b0 : yS) (J : JV × JV × JV × JV) : Tj G (d + 131) 210 (Pfy_Wish_seek_b31 G d h0 v0 v1 v2) (some (.inr b0)) 118 [some (.ref v0), J.1.1, some (.int v2), J.2.1.1, J.2.2.1.1, J.2.2.2.1] [] (yH b0 h0) := tq_exit J rfl rfl
theorem wfy_Wish_seek_j101 {G : ai_G} {d : Nat} {h0 : ai_H} (hO : hOld G h0) (j4 : JV)   (s : yS) (v0 : Nat) (v1 : Int32) (v2 : Int32) (v3 : Int32) (v5 : Int32): Tj G (d + 131) 210 (Pfy_Wish_seek_b31 G d h0 v0 v1 v2) (fy_Wish_seek_j101 G s v0 v1 v2 v3 v5) 101 [some (.ref v0), some (.int v1), some (.int v2), some (.int v3), j4.1, some (.int v5)] [] (yH s h0) := by
  unfold fy_Wish_seek_j101
  refine tq_aload_n dX4_seek_101 rfl ?_
  refine tq_iload_n dX4_seek_102 rfl ?_
  refine ty_wI2 dX4_seek_103 rfl rfl rfl rfl rfl rfl (fun s103 => ?_)
  refine tq_aload_n dX4_seek_106 rfl ?_
  refine tq_iload dX4_seek_107 rfl ?_
  refine ty_wI2 dX4_seek_109 rfl rfl rfl rfl rfl rfl (fun s109 => ?_)
  refine tq_iinc (v := (v3 + 1)) (L' := [_, _, _, _, _, _]) dX4_seek_112 rfl (Nat.le_of_ble_eq_true rfl) rfl rfl ?_
  refine tq_goto dX4_seek_115 rfl ?_
  exact Bfy_Wish_seek_b31 hO _ _ _ _ _ (j4, ⟨some (.int v5), rfl⟩)
theorem wfy_Wish_seek_j75 {G : ai_G} {d : Nat} {h0 : ai_H} (hO : hOld G h0) (j4 : JV) (j5 : JV)   (s : yS) (v0 : Nat) (v1 : Int32) (v2 : Int32) (v3 : Int32) (t0 : Int32): Tj G (d + 131) 210 (Pfy_Wish_seek_b31 G d h0 v0 v1 v2) (fy_Wish_seek_j75 G s v0 v1 v2 v3 t0) 75 [some (.ref v0), some (.int v1), some (.int v2), some (.int v3), j4.1, j5.1] [.int t0] (yH s h0) := by
  unfold fy_Wish_seek_j75
  refine tq_istore (L' := [_, _, _, _, _, _]) dX4_seek_75 (Nat.le_of_ble_eq_true rfl) (st1_jv (i := 4) (j := j4) rfl rfl) ?_
  refine tq_iload dX4_seek_77 rfl ?_
  refine tq_if_lt dX4_seek_79 rfl ?_ ?_
  · refine tq_iinc (v := (v3 + 1)) (L' := [_, _, _, _, _, _]) dX4_seek_112 rfl (Nat.le_of_ble_eq_true rfl) rfl rfl ?_
    refine tq_goto dX4_seek_115 rfl ?_
    exact Bfy_Wish_seek_b31 hO _ _ _ _ _ (j4, ⟨some (.int t0), rfl⟩)
  · refine tq_aload_n dX4_seek_82 rfl ?_
    refine ty_gI2 dX4_seek_83 rfl rfl rfl rfl (fun x83 => ?_)
    refine tq_if_lt dX4_seek_86 rfl ?_ ?_
    · exact wfy_Wish_seek_j101 hO j4 _ _ _ _ _ _
    · refine tq_iload dX4_seek_89 rfl ?_
      refine tq_aload_n dX4_seek_91 rfl ?_
      refine ty_gI2 dX4_seek_92 rfl rfl rfl rfl (fun x92 => ?_)
      refine tq_icmp_lt dX4_seek_95 rfl ?_ ?_
      · exact wfy_Wish_seek_j101 hO j4 _ _ _ _ _ _
      · refine tq_goto dX4_seek_98 rfl ?_
        refine tq_iinc (v := (v3 + 1)) (L' := [_, _, _, _, _, _]) dX4_seek_112 rfl (Nat.le_of_ble_eq_true rfl) rfl rfl ?_
        refine tq_goto dX4_seek_115 rfl ?_
        exact Bfy_Wish_seek_b31 hO _ _ _ _ _ (j4, ⟨some (.int t0), rfl⟩)
theorem wfy_Wish_seek_b31 {G : ai_G} {d : Nat} {h0 : ai_H} (hO : hOld G h0) (v0 : Nat) (v1 : Int32) (v2 : Int32) (q : Int32 × yS) (J : JV × JV) : Tj G (d + 131) 210 (Pfy_Wish_seek_b31 G d h0 v0 v1 v2) (fy_Wish_seek_b31 G v0 v1 v2 q) 31 [some (.ref v0), some (.int v1), some (.int v2), some (.int q.1), J.1.1, J.2.1] [] (yH q.2 h0) := by
  unfold fy_Wish_seek_b31
  refine tq_iload_n dX4_seek_31 rfl ?_
  refine tq_iconst (v := 3) dX4_seek_32 (by decide) ?_
  refine tq_iload_n dX4_seek_33 rfl ?_
  refine ty_s2_pi dX4_seek_34 rfl rfl rfl (Nat.le_of_ble_eq_true rfl) (wfy_B_power (d := d + 130) _ _) (fun p34 => ?_)
  refine tq_icmp_ge dX4_seek_37 rfl ?_ ?_
  · exact Efy_Wish_seek_b31 hO _ _ _ _ (⟨some (.int v1), rfl⟩, ⟨some (.int q.1), rfl⟩, J.1, J.2)
  · refine tq_aload_n dX4_seek_40 rfl ?_
    refine ty_gR2 dX4_seek_41 rfl rfl rfl rfl (fun x41 => ?_)
    refine tq_iload_n dX4_seek_44 rfl ?_
    refine tq_iload_n dX4_seek_45 rfl ?_
    refine tq_iload_n dX4_seek_46 rfl ?_
    refine ty_v3_I dX4_seek_47 rfl rfl rfl (Nat.le_of_ble_eq_true rfl) (wfy_B_goRow hO (d := d) _ _ _ _ _) (fun p47 => ?_)
    refine tq_istore (L' := [_, _, _, _, _, _]) dX4_seek_50 (Nat.le_of_ble_eq_true rfl) rfl ?_
    refine tq_iload dX4_seek_52 rfl ?_
    refine tq_if_ge dX4_seek_54 rfl ?_ ?_
    · refine tq_aload_n dX4_seek_61 rfl ?_
      refine tq_aload_n dX4_seek_62 rfl ?_
      refine ty_gR2 dX4_seek_63 rfl rfl rfl rfl (fun x63 => ?_)
      refine ty_gR dX4_seek_66 rfl rfl (fun x66 => ?_)
      refine tq_iload_n dX4_seek_69 rfl ?_
      refine tq_iload dX4_seek_70 rfl ?_
      refine ty_costOf dX4_seek_72 rfl rfl rfl rfl (Nat.le_of_ble_eq_true rfl) (wfy_Coolest_costOf hO (d := d + 130) _ _ _ _ _) (wfy_Straightest_costOf hO (d := d + 130) _ _ _ _ _) (fun p72 => ?_)
      exact wfy_Wish_seek_j75 hO ⟨some (.int p47.1), rfl⟩ J.2 _ _ _ _ _ _
    · refine tq_iconst (v := (-1)) dX4_seek_57 (by decide) ?_
      refine tq_goto dX4_seek_58 rfl ?_
      exact wfy_Wish_seek_j75 hO ⟨some (.int p47.1), rfl⟩ J.2 _ _ _ _ _ _
theorem Sfy_Wish_seek_b31 {G : ai_G} {d : Nat} {h0 : ai_H} (hO : hOld G h0) {α : Type} {P : α → Option ai_R → Prop} (v0 : Nat) (v1 : Int32) (v2 : Int32) (b0 : Int32) (b1 : yS) (J : JV × JV) {r : yS → Option α} (kk : ∀ (q : yS) (J : JV × JV × JV × JV), Tj G (d + 131) 210 P (r q) 118 [some (.ref v0), J.1.1, some (.int v2), J.2.1.1, J.2.2.1.1, J.2.2.2.1] [] (yH q h0)) : Tj G (d + 131) 210 P ((lp (fy_Wish_seek_b31 G v0 v1 v2) (b0, b1)).bind r) 31 [some (.ref v0), some (.int v1), some (.int v2), some (.int b0), J.1.1, J.2.1] [] (yH b1 h0) := tq_lp1 (J := J) (fun q J => wfy_Wish_seek_b31 hO v0 v1 v2 q J) rfl rfl kk
abbrev Pfy_Wish_seek_b139 (G : ai_G) (d : Nat) (h0 : ai_H) (v0 : Nat) (v2 : Int32) : (Int32 × yS) ⊕ yS → Option ai_R → Prop := Sum.elim (fun (q : Int32 × yS) run => ∃ J : JV × JV × JV, run = ai_run G (d + 131) 210 139 [some (.ref v0), J.1.1, some (.int v2), some (.int q.1), J.2.1.1, J.2.2.1] [] (yH q.2 h0)) (fun (q : yS) run => ∃ J : JV × JV × JV × JV × JV, run = ai_run G (d + 131) 210 174 [some (.ref v0), J.1.1, J.2.1.1, J.2.2.1.1, J.2.2.2.1.1, J.2.2.2.2.1] [] (yH q h0))
theorem Bfy_Wish_seek_b139 {G : ai_G} {d : Nat} {h0 : ai_H} (hO : hOld G h0) (v0 : Nat) (v2 : Int32) (b0 : Int32) (b1 : yS) (J : JV × JV × JV) : Tj G (d + 131) 210 (Pfy_Wish_seek_b139 G d h0 v0 v2) (some (.inl (b0, b1))) 139 [some (.ref v0), J.1.1, some (.int v2), some (.int b0), J.2.1.1, J.2.2.1] [] (yH b1 h0) := tq_back J rfl rfl
theorem Efy_Wish_seek_b139 {G : ai_G} {d : Nat} {h0 : ai_H} (hO : hOld G h0) (v0 : Nat) (v2 : Int32) (b0 : yS) (J : JV × JV × JV × JV × JV) : Tj G (d + 131) 210 (Pfy_Wish_seek_b139 G d h0 v0 v2) (some (.inr b0)) 174 [some (.ref v0), J.1.1, J.2.1.1, J.2.2.1.1, J.2.2.2.1.1, J.2.2.2.2.1] [] (yH b0 h0) := tq_exit J rfl rfl
theorem wfy_Wish_seek_b139 {G : ai_G} {d : Nat} {h0 : ai_H} (hO : hOld G h0) (v0 : Nat) (v2 : Int32) (q : Int32 × yS) (J : JV × JV × JV) : Tj G (d + 131) 210 (Pfy_Wish_seek_b139 G d h0 v0 v2) (fy_Wish_seek_b139 G v0 v2 q) 139 [some (.ref v0), J.1.1, some (.int v2), some (.int q.1), J.2.1.1, J.2.2.1] [] (yH q.2 h0) := by
  unfold fy_Wish_seek_b139
  refine tq_iload_n dX4_seek_139 rfl ?_
  refine tq_aload_n dX4_seek_140 rfl ?_
  refine ty_gR2 dX4_seek_141 rfl rfl rfl rfl (fun x141 => ?_)
  refine ty_gI dX4_seek_144 rfl rfl (fun x144 => ?_)
  refine tq_icmp_ge dX4_seek_147 rfl ?_ ?_
  · exact Efy_Wish_seek_b139 hO _ _ _ (J.1, ⟨some (.int v2), rfl⟩, ⟨some (.int q.1), rfl⟩, J.2.1, J.2.2)
  · refine tq_aload_n dX4_seek_150 rfl ?_
    refine ty_gR2 dX4_seek_151 rfl rfl rfl rfl (fun x151 => ?_)
    refine ty_gR dX4_seek_154 rfl rfl (fun x154 => ?_)
    refine tq_iload_n dX4_seek_157 rfl ?_
    refine tq_aload_n dX4_seek_158 rfl ?_
    refine ty_gI2 dX4_seek_159 rfl rfl rfl rfl (fun x159 => ?_)
    refine tq_iload_n dX4_seek_162 rfl ?_
    refine tq_iload_n dX4_seek_163 rfl ?_
    refine ty_s3_pi dX4_seek_164 rfl rfl rfl (Nat.le_of_ble_eq_true rfl) (wfy_B_steerOf (d := d + 129) _ _ _) (fun p164 => ?_)
    refine ty_iast dX4_seek_167 (fun s167 => ?_)
    refine tq_iinc (v := (q.1 + 1)) (L' := [_, _, _, _, _, _]) dX4_seek_168 rfl (Nat.le_of_ble_eq_true rfl) rfl rfl ?_
    refine tq_goto dX4_seek_171 rfl ?_
    exact Bfy_Wish_seek_b139 hO _ _ _ _ (J.1, J.2.1, J.2.2)
theorem Sfy_Wish_seek_b139 {G : ai_G} {d : Nat} {h0 : ai_H} (hO : hOld G h0) {α : Type} {P : α → Option ai_R → Prop} (v0 : Nat) (v2 : Int32) (b0 : Int32) (b1 : yS) (J : JV × JV × JV) {r : yS → Option α} (kk : ∀ (q : yS) (J : JV × JV × JV × JV × JV), Tj G (d + 131) 210 P (r q) 174 [some (.ref v0), J.1.1, J.2.1.1, J.2.2.1.1, J.2.2.2.1.1, J.2.2.2.2.1] [] (yH q h0)) : Tj G (d + 131) 210 P ((lp (fy_Wish_seek_b139 G v0 v2) (b0, b1)).bind r) 139 [some (.ref v0), J.1.1, some (.int v2), some (.int b0), J.2.1.1, J.2.2.1] [] (yH b1 h0) := tq_lp1 (J := J) (fun q J => wfy_Wish_seek_b139 hO v0 v2 q J) rfl rfl kk
theorem wfy_Wish_seek_j134 {G : ai_G} {d : Nat} {h0 : ai_H} (hO : hOld G h0) (j1 : JV) (j3 : JV) (j4 : JV) (j5 : JV)   (s : yS) (v0 : Nat) (v2 : Int32) (t0 : Nat) (t1 : Int32): Tj G (d + 131) 210 (PyI h0) (fy_Wish_seek_j134 G s v0 v2 t0 t1) 134 [some (.ref v0), j1.1, some (.int v2), j3.1, j4.1, j5.1] [.int t1, .ref t0] (yH s h0) := by
  unfold fy_Wish_seek_j134
  refine ty_wI dX4_seek_134 rfl rfl rfl (fun s134 => ?_)
  refine tq_iconst (v := 0) dX4_seek_137 (by decide) ?_
  refine tq_istore_n (L' := [_, _, _, _, _, _]) dX4_seek_138 (Nat.le_of_ble_eq_true rfl) rfl ?_
  refine Sfy_Wish_seek_b139 hO _ _ _ _ (j1, j4, j5) (fun q139 J139 => ?_)
  refine tq_aload_n dX4_seek_174 rfl ?_
  refine ty_gI2 dX4_seek_175 rfl rfl rfl rfl (fun x175 => ?_)
  refine tq_if_lt dX4_seek_178 rfl ?_ ?_
  · refine tq_iconst (v := 0) dX4_seek_185 (by decide) ?_
    exact tq_ireturn dX4_seek_186 (by decide) rfl
  · refine tq_iconst (v := 1) dX4_seek_181 (by decide) ?_
    refine tq_goto dX4_seek_182 rfl ?_
    exact tq_ireturn dX4_seek_186 (by decide) rfl
theorem wfy_Wish_seek {G : ai_G} {d : Nat} {h0 : ai_H} (hO : hOld G h0) (s : yS) (v0 : Nat) (v1 : Int32) : ∀ r, fy_Wish_seek G s v0 v1 = some r → (PyI h0) r (ai_call G (d + 132) 210 [.ref v0, .int v1] (yH s h0)) := by
  refine tq_meth (P := (PyI h0)) (d := (d + 131)) (Nat.le_of_ble_eq_true rfl) ?_
  show Tj G (d + 131) 210 (PyI h0) (fy_Wish_seek G s v0 v1) 0 [some (.ref v0), some (.int v1), none, none, none, none] [] (yH s h0)
  unfold fy_Wish_seek
  refine tq_aload_n dX4_seek_0 rfl ?_
  refine tq_iconst (v := (-1)) dX4_seek_1 (by decide) ?_
  refine ty_wI2 dX4_seek_2 rfl rfl rfl rfl rfl rfl (fun s2 => ?_)
  refine tq_aload_n dX4_seek_5 rfl ?_
  refine ty_gR2 dX4_seek_6 rfl rfl rfl rfl (fun x6 => ?_)
  refine ty_gR dX4_seek_9 rfl rfl (fun x9 => ?_)
  refine ty_gI dX4_seek_12 rfl rfl (fun x12 => ?_)
  refine tq_aload_n dX4_seek_15 rfl ?_
  refine ty_gR2 dX4_seek_16 rfl rfl rfl rfl (fun x16 => ?_)
  refine ty_gR dX4_seek_19 rfl rfl (fun x19 => ?_)
  refine ty_gR dX4_seek_22 rfl rfl (fun x22 => ?_)
  refine tq_iload_n dX4_seek_25 rfl ?_
  refine ty_iald dX4_seek_26 (fun x26 => ?_)
  refine tq_isub dX4_seek_27 ?_
  refine tq_istore_n (L' := [_, _, _, _, _, _]) dX4_seek_28 (Nat.le_of_ble_eq_true rfl) rfl ?_
  refine tq_iconst (v := 0) dX4_seek_29 (by decide) ?_
  refine tq_istore_n (L' := [_, _, _, _, _, _]) dX4_seek_30 (Nat.le_of_ble_eq_true rfl) rfl ?_
  refine Sfy_Wish_seek_b31 hO _ _ _ _ _ (⟨none, rfl⟩, ⟨none, rfl⟩) (fun q31 J31 => ?_)
  refine tq_aload_n dX4_seek_118 rfl ?_
  refine ty_gR2 dX4_seek_119 rfl rfl rfl rfl (fun x119 => ?_)
  refine tq_aload_n dX4_seek_122 rfl ?_
  refine ty_gI2 dX4_seek_123 rfl rfl rfl rfl (fun x123 => ?_)
  refine tq_if_ge dX4_seek_126 rfl ?_ ?_
  · refine tq_iload_n dX4_seek_133 rfl ?_
    exact wfy_Wish_seek_j134 hO J31.1 J31.2.1 J31.2.2.1 J31.2.2.2 _ _ _ _ _
  · refine tq_iconst (v := 0) dX4_seek_129 (by decide) ?_
    refine tq_goto dX4_seek_130 rfl ?_
    exact wfy_Wish_seek_j134 hO J31.1 J31.2.1 J31.2.2.1 J31.2.2.2 _ _ _ _ _
theorem wfy_B_coolest {G : ai_G} {d : Nat} {h0 : ai_H} (hO : hOld G h0) (s : yS) (v0 : Nat) (v1 : Int32) (v2 : Int32) : ∀ r, fy_B_coolest G s v0 v1 v2 = some r → (PyI h0) r (ai_call G (d + 133) 211 [.ref v0, .int v1, .int v2] (yH s h0)) := by
  refine tq_meth (P := (PyI h0)) (d := (d + 132)) (Nat.le_of_ble_eq_true rfl) ?_
  show Tj G (d + 132) 211 (PyI h0) (fy_B_coolest G s v0 v1 v2) 0 [some (.ref v0), some (.int v1), some (.int v2), none] [] (yH s h0)
  unfold fy_B_coolest
  refine tq_aload_n dX0_coolest_0 rfl ?_
  refine tq_iconst (v := 0) dX0_coolest_1 (by decide) ?_
  refine ty_wI dX0_coolest_2 rfl rfl rfl (fun s2 => ?_)
  refine tq_aload_n dX0_coolest_5 rfl ?_
  refine tq_iload_n dX0_coolest_6 rfl ?_
  refine ty_v1_i dX0_coolest_7 rfl rfl rfl (Nat.le_of_ble_eq_true rfl) (wfy_B_isBoard hO (d := d + 129) _ _ _) (fun p7 => ?_)
  refine tq_if_eq dX0_coolest_10 rfl ?_ ?_
  · refine tq_iconst (v := (-1)) dX0_coolest_33 (by decide) ?_
    exact tq_ireturn dX0_coolest_34 rfl rfl
  · refine tq_iload_n dX0_coolest_13 rfl ?_
    refine tq_iconst (v := 0) dX0_coolest_14 (by decide) ?_
    refine tq_iconst (v := 2) dX0_coolest_15 (by decide) ?_
    refine ty_s3_pi dX0_coolest_16 rfl rfl rfl (Nat.le_of_ble_eq_true rfl) (wfy_B_isIn (d := d + 131) _ _ _) (fun p16 => ?_)
    refine tq_if_eq dX0_coolest_19 rfl ?_ ?_
    · refine tq_iconst (v := (-1)) dX0_coolest_33 (by decide) ?_
      exact tq_ireturn dX0_coolest_34 rfl rfl
    · refine tq_aload_n dX0_coolest_22 rfl ?_
      refine ty_gR dX0_coolest_23 rfl rfl (fun x23 => ?_)
      refine tq_iload_n dX0_coolest_26 rfl ?_
      refine ty_w1_I dX0_coolest_27 rfl rfl rfl rfl (Nat.le_of_ble_eq_true rfl) (wfy_Wish_seek hO (d := d) _ _ _) (fun p27 => ?_)
      refine tq_if_ne dX0_coolest_30 rfl ?_ ?_
      · refine tq_aload_n dX0_coolest_35 rfl ?_
        refine tq_iload_n dX0_coolest_36 rfl ?_
        refine tq_aload_n dX0_coolest_37 rfl ?_
        refine ty_gR dX0_coolest_38 rfl rfl (fun x38 => ?_)
        refine ty_gI2 dX0_coolest_41 rfl rfl rfl rfl (fun x41 => ?_)
        refine tq_aload_n dX0_coolest_44 rfl ?_
        refine ty_gI dX0_coolest_45 rfl rfl (fun x45 => ?_)
        refine ty_v3_I dX0_coolest_48 rfl rfl rfl (Nat.le_of_ble_eq_true rfl) (wfy_B_goRow hO (d := d + 1) _ _ _ _ _) (fun p48 => ?_)
        refine tq_istore_n (L' := [_, _, _, _]) dX0_coolest_51 (Nat.le_of_ble_eq_true rfl) rfl ?_
        refine tq_iload_n dX0_coolest_52 rfl ?_
        refine tq_if_ne dX0_coolest_53 rfl ?_ ?_
        · refine tq_iload_n dX0_coolest_78 rfl ?_
          refine tq_iconst (v := 1) dX0_coolest_79 (by decide) ?_
          refine tq_icmp_ne dX0_coolest_80 rfl ?_ ?_
          · refine tq_aload_n dX0_coolest_95 rfl ?_
            refine ty_gR dX0_coolest_96 rfl rfl (fun x96 => ?_)
            refine ty_gR dX0_coolest_99 rfl rfl (fun x99 => ?_)
            refine tq_iload_n dX0_coolest_102 rfl ?_
            refine ty_iald dX0_coolest_103 (fun x103 => ?_)
            exact tq_ireturn dX0_coolest_104 rfl rfl
          · refine tq_aload_n dX0_coolest_83 rfl ?_
            refine ty_gR dX0_coolest_84 rfl rfl (fun x84 => ?_)
            refine ty_gR dX0_coolest_87 rfl rfl (fun x87 => ?_)
            refine tq_iload_n dX0_coolest_90 rfl ?_
            refine ty_iald dX0_coolest_91 (fun x91 => ?_)
            refine tq_goto dX0_coolest_92 rfl ?_
            exact tq_ireturn dX0_coolest_104 rfl rfl
        · refine tq_aload_n dX0_coolest_56 rfl ?_
          refine ty_gR dX0_coolest_57 rfl rfl (fun x57 => ?_)
          refine ty_gR dX0_coolest_60 rfl rfl (fun x60 => ?_)
          refine tq_iload_n dX0_coolest_63 rfl ?_
          refine ty_iald dX0_coolest_64 (fun x64 => ?_)
          refine tq_aload_n dX0_coolest_65 rfl ?_
          refine ty_gR dX0_coolest_66 rfl rfl (fun x66 => ?_)
          refine ty_gR dX0_coolest_69 rfl rfl (fun x69 => ?_)
          refine tq_iload_n dX0_coolest_72 rfl ?_
          refine ty_iald dX0_coolest_73 (fun x73 => ?_)
          refine tq_isub dX0_coolest_74 ?_
          refine tq_goto dX0_coolest_75 rfl ?_
          exact tq_ireturn dX0_coolest_104 rfl rfl
      · refine tq_iconst (v := (-1)) dX0_coolest_33 (by decide) ?_
        exact tq_ireturn dX0_coolest_34 rfl rfl
theorem wfy_B_straight {G : ai_G} {d : Nat} {h0 : ai_H} (hO : hOld G h0) (s : yS) (v0 : Nat) (v1 : Int32) (v2 : Int32) : ∀ r, fy_B_straight G s v0 v1 v2 = some r → (PyI h0) r (ai_call G (d + 133) 214 [.ref v0, .int v1, .int v2] (yH s h0)) := by
  refine tq_meth (P := (PyI h0)) (d := (d + 132)) (Nat.le_of_ble_eq_true rfl) ?_
  show Tj G (d + 132) 214 (PyI h0) (fy_B_straight G s v0 v1 v2) 0 [some (.ref v0), some (.int v1), some (.int v2)] [] (yH s h0)
  unfold fy_B_straight
  refine tq_aload_n dX0_straight_0 rfl ?_
  refine tq_iconst (v := 0) dX0_straight_1 (by decide) ?_
  refine ty_wI dX0_straight_2 rfl rfl rfl (fun s2 => ?_)
  refine tq_aload_n dX0_straight_5 rfl ?_
  refine tq_iload_n dX0_straight_6 rfl ?_
  refine ty_v1_i dX0_straight_7 rfl rfl rfl (Nat.le_of_ble_eq_true rfl) (wfy_B_isBoard hO (d := d + 129) _ _ _) (fun p7 => ?_)
  refine tq_if_eq dX0_straight_10 rfl ?_ ?_
  · refine tq_iconst (v := (-1)) dX0_straight_30 (by decide) ?_
    exact tq_ireturn dX0_straight_31 rfl rfl
  · refine tq_iload_n dX0_straight_13 rfl ?_
    refine tq_iconst (v := 0) dX0_straight_14 (by decide) ?_
    refine tq_aload_n dX0_straight_15 rfl ?_
    refine ty_gR dX0_straight_16 rfl rfl (fun x16 => ?_)
    refine ty_gI dX0_straight_19 rfl rfl (fun x19 => ?_)
    refine tq_iconst (v := 1) dX0_straight_22 (by decide) ?_
    refine tq_isub dX0_straight_23 ?_
    refine ty_s3_pi dX0_straight_24 rfl rfl rfl (Nat.le_of_ble_eq_true rfl) (wfy_B_isIn (d := d + 131) _ _ _) (fun p24 => ?_)
    refine tq_if_ne dX0_straight_27 rfl ?_ ?_
    · refine tq_aload_n dX0_straight_32 rfl ?_
      refine ty_gR dX0_straight_33 rfl rfl (fun x33 => ?_)
      refine tq_iload_n dX0_straight_36 rfl ?_
      refine ty_wI dX0_straight_37 rfl rfl rfl (fun s37 => ?_)
      refine tq_aload_n dX0_straight_40 rfl ?_
      refine ty_gR dX0_straight_41 rfl rfl (fun x41 => ?_)
      refine tq_iload_n dX0_straight_44 rfl ?_
      refine ty_v1_I dX0_straight_45 rfl rfl rfl (Nat.le_of_ble_eq_true rfl) (wfy_Wish_seek hO (d := d) _ _ _) (fun p45 => ?_)
      refine tq_if_eq dX0_straight_48 rfl ?_ ?_
      · refine tq_iconst (v := (-1)) dX0_straight_61 (by decide) ?_
        exact tq_ireturn dX0_straight_62 rfl rfl
      · refine tq_aload_n dX0_straight_51 rfl ?_
        refine ty_gR dX0_straight_52 rfl rfl (fun x52 => ?_)
        refine ty_gI2 dX0_straight_55 rfl rfl rfl rfl (fun x55 => ?_)
        refine tq_goto dX0_straight_58 rfl ?_
        exact tq_ireturn dX0_straight_62 rfl rfl
    · refine tq_iconst (v := (-1)) dX0_straight_30 (by decide) ?_
      exact tq_ireturn dX0_straight_31 rfl rfl

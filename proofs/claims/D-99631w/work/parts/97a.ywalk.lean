/-! WALKS of the component (printed by tools/decy.py) -/
set_option maxRecDepth 100000
theorem wfy_J0_init {G : ai_G} {d : Nat} {h0 : ai_H} (hO : hOld G h0) (s : yS) (v0 : Nat) : ∀ r, fy_J0_init G s v0 = some r → (Pu (yH s h0)) r (ai_call G (d + 1) 1 [.ref v0] (yH s h0)) := by
  refine tq_meth (P := (Pu (yH s h0))) (d := d) (Nat.le_of_ble_eq_true rfl) ?_
  show Tj G d 1 (Pu (yH s h0)) (fy_J0_init G s v0) 0 [some (.ref v0)] [] (yH s h0)
  unfold fy_J0_init
  refine tq_aload_n dJ0_init_0 rfl ?_
  refine tq_objI dJ0_init_1 rfl (Nat.le_of_ble_eq_true rfl) ?_
  exact tq_return dJ0_init_4 rfl rfl
theorem wfy_J1_init {G : ai_G} {d : Nat} {h0 : ai_H} (hO : hOld G h0) (s : yS) (v0 : Nat) : ∀ r, fy_J1_init G s v0 = some r → (PyV h0) r (ai_call G (d + 2) 2 [.ref v0] (yH s h0)) := by
  refine tq_meth (P := (PyV h0)) (d := (d + 1)) (Nat.le_of_ble_eq_true rfl) ?_
  show Tj G (d + 1) 2 (PyV h0) (fy_J1_init G s v0) 0 [some (.ref v0)] [] (yH s h0)
  unfold fy_J1_init
  refine tq_aload_n dJ1_init_0 rfl ?_
  refine ty_c0_u dJ1_init_1 rfl rfl rfl (Nat.le_of_ble_eq_true rfl) (wfy_J0_init hO (d := d) _ _) (fun p1 => ?_)
  refine tq_aload_n dJ1_init_4 rfl ?_
  refine tq_iconst (v := 0) dJ1_init_5 (by decide) ?_
  refine ty_wI dJ1_init_6 rfl rfl rfl (fun s6 => ?_)
  exact tq_return dJ1_init_9 rfl rfl
theorem wfy_List_init {G : ai_G} {d : Nat} {h0 : ai_H} (hO : hOld G h0) (s : yS) (v0 : Nat) : ∀ r, fy_List_init G s v0 = some r → (PyV h0) r (ai_call G (d + 3) 3 [.ref v0] (yH s h0)) := by
  refine tq_meth (P := (PyV h0)) (d := (d + 2)) (Nat.le_of_ble_eq_true rfl) ?_
  show Tj G (d + 2) 3 (PyV h0) (fy_List_init G s v0) 0 [some (.ref v0)] [] (yH s h0)
  unfold fy_List_init
  refine tq_aload_n dJ2_init_0 rfl ?_
  refine ty_c0_V dJ2_init_1 rfl rfl rfl (Nat.le_of_ble_eq_true rfl) (wfy_J1_init hO (d := d) _ _) (fun p1 => ?_)
  refine tq_aload_n dJ2_init_4 rfl ?_
  refine ty_gets (k9 := 50) dJ2_init_5 rfl (fun x5 => ?_)
  refine ty_wRr dJ2_init_8 rfl rfl rfl (fun s8 => ?_)
  exact tq_return dJ2_init_11 rfl rfl
theorem wfy_River_init {G : ai_G} {d : Nat} {h0 : ai_H} (hO : hOld G h0) (s : yS) (v0 : Nat) : ∀ r, fy_River_init G s v0 = some r → (PyV h0) r (ai_call G (d + 4) 4 [.ref v0] (yH s h0)) := by
  refine tq_meth (P := (PyV h0)) (d := (d + 3)) (Nat.le_of_ble_eq_true rfl) ?_
  show Tj G (d + 3) 4 (PyV h0) (fy_River_init G s v0) 0 [some (.ref v0)] [] (yH s h0)
  unfold fy_River_init
  refine tq_aload_n dX1_init_0 rfl ?_
  refine tq_objI dX1_init_1 rfl (Nat.le_of_ble_eq_true rfl) ?_
  refine tq_aload_n dX1_init_4 rfl ?_
  refine ty_new dX1_init_5 rfl (fun s5 => ?_)
  refine tq_dup dX1_init_8 rfl ?_
  refine ty_c0_V dX1_init_9 rfl rfl rfl (Nat.le_of_ble_eq_true rfl) (wfy_List_init hO (d := d) _ _) (fun p9 => ?_)
  refine ty_wRr dX1_init_12 rfl rfl rfl (fun s12 => ?_)
  refine tq_aload_n dX1_init_15 rfl ?_
  refine ty_new dX1_init_16 rfl (fun s16 => ?_)
  refine tq_dup dX1_init_19 rfl ?_
  refine ty_c0_V dX1_init_20 rfl rfl rfl (Nat.le_of_ble_eq_true rfl) (wfy_List_init hO (d := d) _ _) (fun p20 => ?_)
  refine ty_wRr dX1_init_23 rfl rfl rfl (fun s23 => ?_)
  refine tq_aload_n dX1_init_26 rfl ?_
  refine tq_bipush (v := 56) dX1_init_27 (by decide) ?_
  refine ty_newI dX1_init_29 (fun s29 => ?_)
  refine ty_wRr dX1_init_31 rfl rfl rfl (fun s31 => ?_)
  refine tq_aload_n dX1_init_34 rfl ?_
  refine tq_bipush (v := 56) dX1_init_35 (by decide) ?_
  refine ty_newZ dX1_init_37 (fun s37 => ?_)
  refine ty_wRr dX1_init_39 rfl rfl rfl (fun s39 => ?_)
  refine tq_aload_n dX1_init_42 rfl ?_
  refine tq_bipush (v := 56) dX1_init_43 (by decide) ?_
  refine ty_newZ dX1_init_45 (fun s45 => ?_)
  refine ty_wRr dX1_init_47 rfl rfl rfl (fun s47 => ?_)
  refine tq_aload_n dX1_init_50 rfl ?_
  refine tq_bipush (v := 8) dX1_init_51 (by decide) ?_
  refine ty_wI dX1_init_53 rfl rfl rfl (fun s53 => ?_)
  refine tq_aload_n dX1_init_56 rfl ?_
  refine tq_bipush (v := 6) dX1_init_57 (by decide) ?_
  refine ty_wI dX1_init_59 rfl rfl rfl (fun s59 => ?_)
  refine tq_aload_n dX1_init_62 rfl ?_
  refine tq_bipush (v := 6) dX1_init_63 (by decide) ?_
  refine ty_newI dX1_init_65 (fun s65 => ?_)
  refine ty_wRr dX1_init_67 rfl rfl rfl (fun s67 => ?_)
  exact tq_return dX1_init_70 rfl rfl
theorem wfy_State_init {G : ai_G} {d : Nat} {h0 : ai_H} (hO : hOld G h0) (s : yS) (v0 : Nat) : ∀ r, fy_State_init G s v0 = some r → (PyV h0) r (ai_call G (d + 1) 5 [.ref v0] (yH s h0)) := by
  refine tq_meth (P := (PyV h0)) (d := d) (Nat.le_of_ble_eq_true rfl) ?_
  show Tj G d 5 (PyV h0) (fy_State_init G s v0) 0 [some (.ref v0)] [] (yH s h0)
  unfold fy_State_init
  refine tq_aload_n dX2_init_0 rfl ?_
  refine tq_objI dX2_init_1 rfl (Nat.le_of_ble_eq_true rfl) ?_
  refine tq_aload_n dX2_init_4 rfl ?_
  refine tq_iconst (v := 4) dX2_init_5 (by decide) ?_
  refine ty_newI dX2_init_6 (fun s6 => ?_)
  refine ty_wRr dX2_init_8 rfl rfl rfl (fun s8 => ?_)
  refine tq_aload_n dX2_init_11 rfl ?_
  refine tq_iconst (v := 4) dX2_init_12 (by decide) ?_
  refine ty_newI dX2_init_13 (fun s13 => ?_)
  refine ty_wRr dX2_init_15 rfl rfl rfl (fun s15 => ?_)
  refine tq_aload_n dX2_init_18 rfl ?_
  refine tq_iconst (v := 4) dX2_init_19 (by decide) ?_
  refine ty_newI dX2_init_20 (fun s20 => ?_)
  refine ty_wRr dX2_init_22 rfl rfl rfl (fun s22 => ?_)
  refine tq_aload_n dX2_init_25 rfl ?_
  refine tq_iconst (v := 4) dX2_init_26 (by decide) ?_
  refine ty_newI dX2_init_27 (fun s27 => ?_)
  refine ty_wRr dX2_init_29 rfl rfl rfl (fun s29 => ?_)
  refine tq_aload_n dX2_init_32 rfl ?_
  refine tq_iconst (v := 4) dX2_init_33 (by decide) ?_
  refine ty_newI dX2_init_34 (fun s34 => ?_)
  refine ty_wRr dX2_init_36 rfl rfl rfl (fun s36 => ?_)
  refine tq_aload_n dX2_init_39 rfl ?_
  refine tq_bipush (v := 7) dX2_init_40 (by decide) ?_
  refine ty_newI dX2_init_42 (fun s42 => ?_)
  refine ty_wRr dX2_init_44 rfl rfl rfl (fun s44 => ?_)
  exact tq_return dX2_init_47 rfl rfl
theorem wfy_Wish_init {G : ai_G} {d : Nat} {h0 : ai_H} (hO : hOld G h0) (s : yS) (v0 : Nat) (v1 : Nat) : ∀ r, fy_Wish_init G s v0 v1 = some r → (PyV h0) r (ai_call G (d + 1) 6 [.ref v0, .ref v1] (yH s h0)) := by
  refine tq_meth (P := (PyV h0)) (d := d) (Nat.le_of_ble_eq_true rfl) ?_
  show Tj G d 6 (PyV h0) (fy_Wish_init G s v0 v1) 0 [some (.ref v0), some (.ref v1)] [] (yH s h0)
  unfold fy_Wish_init
  refine tq_aload_n dX4_init_0 rfl ?_
  refine tq_aload_n dX4_init_1 rfl ?_
  refine ty_wRr2 dX4_init_2 rfl rfl rfl rfl rfl rfl (fun s2 => ?_)
  refine tq_aload_n dX4_init_5 rfl ?_
  refine tq_objI dX4_init_6 rfl (Nat.le_of_ble_eq_true rfl) ?_
  exact tq_return dX4_init_9 rfl rfl
theorem wfy_Coolest_init {G : ai_G} {d : Nat} {h0 : ai_H} (hO : hOld G h0) (s : yS) (v0 : Nat) (v1 : Nat) : ∀ r, fy_Coolest_init G s v0 v1 = some r → (PyV h0) r (ai_call G (d + 2) 7 [.ref v0, .ref v1] (yH s h0)) := by
  refine tq_meth (P := (PyV h0)) (d := (d + 1)) (Nat.le_of_ble_eq_true rfl) ?_
  show Tj G (d + 1) 7 (PyV h0) (fy_Coolest_init G s v0 v1) 0 [some (.ref v0), some (.ref v1)] [] (yH s h0)
  unfold fy_Coolest_init
  refine tq_aload_n dX5_init_0 rfl ?_
  refine tq_aload_n dX5_init_1 rfl ?_
  refine ty_wRr dX5_init_2 rfl rfl rfl (fun s2 => ?_)
  refine tq_aload_n dX5_init_5 rfl ?_
  refine tq_aload_n dX5_init_6 rfl ?_
  refine ty_c1_V dX5_init_7 rfl rfl rfl (Nat.le_of_ble_eq_true rfl) (wfy_Wish_init hO (d := d) _ _ _) (fun p7 => ?_)
  exact tq_return dX5_init_10 rfl rfl
theorem wfy_Straightest_init {G : ai_G} {d : Nat} {h0 : ai_H} (hO : hOld G h0) (s : yS) (v0 : Nat) (v1 : Nat) : ∀ r, fy_Straightest_init G s v0 v1 = some r → (PyV h0) r (ai_call G (d + 2) 8 [.ref v0, .ref v1] (yH s h0)) := by
  refine tq_meth (P := (PyV h0)) (d := (d + 1)) (Nat.le_of_ble_eq_true rfl) ?_
  show Tj G (d + 1) 8 (PyV h0) (fy_Straightest_init G s v0 v1) 0 [some (.ref v0), some (.ref v1)] [] (yH s h0)
  unfold fy_Straightest_init
  refine tq_aload_n dX6_init_0 rfl ?_
  refine tq_aload_n dX6_init_1 rfl ?_
  refine ty_wRr dX6_init_2 rfl rfl rfl (fun s2 => ?_)
  refine tq_aload_n dX6_init_5 rfl ?_
  refine tq_aload_n dX6_init_6 rfl ?_
  refine ty_c1_V dX6_init_7 rfl rfl rfl (Nat.le_of_ble_eq_true rfl) (wfy_Wish_init hO (d := d) _ _ _) (fun p7 => ?_)
  exact tq_return dX6_init_10 rfl rfl
theorem wfy_Kept_init {G : ai_G} {d : Nat} {h0 : ai_H} (hO : hOld G h0) (s : yS) (v0 : Nat) (v1 : Option Nat) : ∀ r, fy_Kept_init G s v0 v1 = some r → (PyV h0) r (ai_call G (d + 1) 9 [.ref v0, va_rf v1] (yH s h0)) := by
  refine tq_methE (P := (PyV h0)) (d := d) (L := [some (.ref v0), some (va_rf v1)]) (by cases v1 <;> exact (Nat.le_of_ble_eq_true rfl)) (by cases v1 <;> rfl) ?_
  show Tj G d 9 (PyV h0) (fy_Kept_init G s v0 v1) 0 [some (.ref v0), some (va_rf v1)] [] (yH s h0)
  unfold fy_Kept_init
  refine tq_aload_n dX7_init_0 rfl ?_
  refine tq_objI dX7_init_1 rfl (Nat.le_of_ble_eq_true rfl) ?_
  refine tq_aload_n dX7_init_4 rfl ?_
  refine tq_aloadV_n dX7_init_5 rfl ?_
  refine ty_wR dX7_init_6 rfl rfl rfl (fun s6 => ?_)
  exact tq_return dX7_init_9 rfl rfl
theorem wfy_List_size {G : ai_G} {d : Nat} {h0 : ai_H} (hO : hOld G h0) (s : yS) (v0 : Nat) : ∀ r, fy_List_size G s v0 = some r → (Pi (yH s h0)) r (ai_call G (d + 1) 10 [.ref v0] (yH s h0)) := by
  refine tq_meth (P := (Pi (yH s h0))) (d := d) (Nat.le_of_ble_eq_true rfl) ?_
  show Tj G d 10 (Pi (yH s h0)) (fy_List_size G s v0) 0 [some (.ref v0)] [] (yH s h0)
  unfold fy_List_size
  refine tq_aload_n dJ2_size_0 rfl ?_
  refine ty_gI dJ2_size_1 rfl rfl (fun x1 => ?_)
  exact tq_ireturn dJ2_size_4 rfl rfl
theorem wfy_J6_checkIndex {G : ai_G} {d : Nat} {h : ai_H} (v0 : Int32) (v1 : Int32) (a2 : Option Nat) : ∀ r, fy_J6_checkIndex v0 v1 = some r → (Pi h) r (ai_call G (d + 1) 11 [.int v0, .int v1, va_rf a2] h) := by
  refine tq_methE (P := (Pi h)) (d := d) (L := [some (.int v0), some (.int v1), some (va_rf a2)]) (by cases a2 <;> exact (Nat.le_of_ble_eq_true rfl)) (by cases a2 <;> rfl) ?_
  show Tj G d 11 (Pi h) (fy_J6_checkIndex v0 v1) 0 [some (.int v0), some (.int v1), some (va_rf a2)] [] h
  unfold fy_J6_checkIndex
  refine tq_iload_n dJ6_checkIndex_0 rfl ?_
  refine tq_if_lt dJ6_checkIndex_1 rfl ?_ ?_
  · exact tq_none
  · refine tq_iload_n dJ6_checkIndex_4 rfl ?_
    refine tq_iload_n dJ6_checkIndex_5 rfl ?_
    refine tq_icmp_lt dJ6_checkIndex_6 rfl ?_ ?_
    · refine tq_iload_n dJ6_checkIndex_16 rfl ?_
      exact tq_ireturn dJ6_checkIndex_17 rfl rfl
    · exact tq_none
theorem wfy_J5_checkIndex {G : ai_G} {d : Nat} {h : ai_H} (v0 : Int32) (v1 : Int32) : ∀ r, fy_J5_checkIndex v0 v1 = some r → (Pi h) r (ai_call G (d + 2) 12 [.int v0, .int v1] h) := by
  refine tq_meth (P := (Pi h)) (d := (d + 1)) (Nat.le_of_ble_eq_true rfl) ?_
  show Tj G (d + 1) 12 (Pi h) (fy_J5_checkIndex v0 v1) 0 [some (.int v0), some (.int v1)] [] h
  unfold fy_J5_checkIndex
  refine tq_iload_n dJ5_checkIndex_0 rfl ?_
  refine tq_iload_n dJ5_checkIndex_1 rfl ?_
  refine tq_null dJ5_checkIndex_2 ?_
  refine ty_s3_pi dJ5_checkIndex_3 rfl rfl rfl (Nat.le_of_ble_eq_true rfl) (wfy_J6_checkIndex (d := d) _ _ none) (fun p3 => ?_)
  exact tq_ireturn dJ5_checkIndex_6 rfl rfl
theorem wfy_List_elementData {G : ai_G} {d : Nat} {h0 : ai_H} (hO : hOld G h0) (s : yS) (v0 : Nat) (v1 : Int32) : ∀ r, fy_List_elementData G s v0 v1 = some r → (Pr (yH s h0)) r (ai_call G (d + 1) 13 [.ref v0, .int v1] (yH s h0)) := by
  refine tq_meth (P := (Pr (yH s h0))) (d := d) (Nat.le_of_ble_eq_true rfl) ?_
  show Tj G d 13 (Pr (yH s h0)) (fy_List_elementData G s v0 v1) 0 [some (.ref v0), some (.int v1)] [] (yH s h0)
  unfold fy_List_elementData
  refine tq_aload_n dJ2_elementData_0 rfl ?_
  refine ty_gR dJ2_elementData_1 rfl rfl (fun x1 => ?_)
  refine tq_iload_n dJ2_elementData_4 rfl ?_
  refine ty_aald hO dJ2_elementData_5 (fun x5 => ?_)
  exact tq_areturn dJ2_elementData_6 rfl rfl rfl
theorem wfy_List_get {G : ai_G} {d : Nat} {h0 : ai_H} (hO : hOld G h0) (s : yS) (v0 : Nat) (v1 : Int32) : ∀ r, fy_List_get G s v0 v1 = some r → (Pr (yH s h0)) r (ai_call G (d + 3) 14 [.ref v0, .int v1] (yH s h0)) := by
  refine tq_meth (P := (Pr (yH s h0))) (d := (d + 2)) (Nat.le_of_ble_eq_true rfl) ?_
  show Tj G (d + 2) 14 (Pr (yH s h0)) (fy_List_get G s v0 v1) 0 [some (.ref v0), some (.int v1)] [] (yH s h0)
  unfold fy_List_get
  refine tq_iload_n dJ2_get_0 rfl ?_
  refine tq_aload_n dJ2_get_1 rfl ?_
  refine ty_gI dJ2_get_2 rfl rfl (fun x2 => ?_)
  refine ty_s2_pi dJ2_get_5 rfl rfl rfl (Nat.le_of_ble_eq_true rfl) (wfy_J5_checkIndex (d := d) _ _) (fun p5 => ?_)
  refine tq_pop dJ2_get_8 rfl ?_
  refine tq_aload_n dJ2_get_9 rfl ?_
  refine tq_iload_n dJ2_get_10 rfl ?_
  refine ty_v1_r dJ2_get_11 rfl rfl rfl (Nat.le_of_ble_eq_true rfl) (wfy_List_elementData hO (d := d + 1) _ _ _) (fun p11 => ?_)
  exact tq_areturn dJ2_get_14 rfl rfl rfl
abbrev Pfy_State_begin_b2 (G : ai_G) (d : Nat) (h0 : ai_H) (v0 : Nat) (v1 : Nat) : (Int32 × yS) ⊕ yS → Option ai_R → Prop := Sum.elim (fun (q : Int32 × yS) run => ∃ J : Unit, run = ai_run G (d + 3) 15 2 [some (.ref v0), some (.ref v1), some (.int q.1)] [] (yH q.2 h0)) (fun (q : yS) run => ∃ J : JV, run = ai_run G (d + 3) 15 76 [some (.ref v0), some (.ref v1), J.1] [] (yH q h0))
theorem Bfy_State_begin_b2 {G : ai_G} {d : Nat} {h0 : ai_H} (hO : hOld G h0) (v0 : Nat) (v1 : Nat) (b0 : Int32) (b1 : yS) (J : Unit) : Tj G (d + 3) 15 (Pfy_State_begin_b2 G d h0 v0 v1) (some (.inl (b0, b1))) 2 [some (.ref v0), some (.ref v1), some (.int b0)] [] (yH b1 h0) := tq_back J rfl rfl
theorem Efy_State_begin_b2 {G : ai_G} {d : Nat} {h0 : ai_H} (hO : hOld G h0) (v0 : Nat) (v1 : Nat) (b0 : yS) (J : JV) : Tj G (d + 3) 15 (Pfy_State_begin_b2 G d h0 v0 v1) (some (.inr b0)) 76 [some (.ref v0), some (.ref v1), J.1] [] (yH b0 h0) := tq_exit J rfl rfl
theorem wfy_State_begin_j41 {G : ai_G} {d : Nat} {h0 : ai_H} (hO : hOld G h0)    (s : yS) (v0 : Nat) (v1 : Nat) (v2 : Int32) (t0 : Nat) (t1 : Int32) (t2 : Int32): Tj G (d + 3) 15 (Pfy_State_begin_b2 G d h0 v0 v1) (fy_State_begin_j41 G s v0 v1 v2 t0 t1 t2) 41 [some (.ref v0), some (.ref v1), some (.int v2)] [.int t2, .int t1, .ref t0] (yH s h0) := by
  unfold fy_State_begin_j41
  refine ty_iast dX2_begin_41 (fun s41 => ?_)
  refine tq_aload_n dX2_begin_42 rfl ?_
  refine ty_gR dX2_begin_43 rfl rfl (fun x43 => ?_)
  refine tq_iload_n dX2_begin_46 rfl ?_
  refine tq_iconst (v := 0) dX2_begin_47 (by decide) ?_
  refine ty_iast dX2_begin_48 (fun s48 => ?_)
  refine tq_aload_n dX2_begin_49 rfl ?_
  refine ty_gR dX2_begin_50 rfl rfl (fun x50 => ?_)
  refine tq_iload_n dX2_begin_53 rfl ?_
  refine tq_iconst (v := 0) dX2_begin_54 (by decide) ?_
  refine ty_iast dX2_begin_55 (fun s55 => ?_)
  refine tq_aload_n dX2_begin_56 rfl ?_
  refine ty_gR dX2_begin_57 rfl rfl (fun x57 => ?_)
  refine tq_iload_n dX2_begin_60 rfl ?_
  refine tq_iconst (v := 0) dX2_begin_61 (by decide) ?_
  refine ty_iast dX2_begin_62 (fun s62 => ?_)
  refine tq_aload_n dX2_begin_63 rfl ?_
  refine ty_gR dX2_begin_64 rfl rfl (fun x64 => ?_)
  refine tq_iload_n dX2_begin_67 rfl ?_
  refine tq_iconst (v := 0) dX2_begin_68 (by decide) ?_
  refine ty_iast dX2_begin_69 (fun s69 => ?_)
  refine tq_iinc (v := (v2 + 1)) (L' := [_, _, _]) dX2_begin_70 rfl (Nat.le_of_ble_eq_true rfl) rfl rfl ?_
  refine tq_goto dX2_begin_73 rfl ?_
  exact Bfy_State_begin_b2 hO _ _ _ _ ()
theorem wfy_State_begin_b2 {G : ai_G} {d : Nat} {h0 : ai_H} (hO : hOld G h0) (v0 : Nat) (v1 : Nat) (q : Int32 × yS) (J : Unit) : Tj G (d + 3) 15 (Pfy_State_begin_b2 G d h0 v0 v1) (fy_State_begin_b2 G v0 v1 q) 2 [some (.ref v0), some (.ref v1), some (.int q.1)] [] (yH q.2 h0) := by
  unfold fy_State_begin_b2
  refine tq_iload_n dX2_begin_2 rfl ?_
  refine tq_iconst (v := 4) dX2_begin_3 (by decide) ?_
  refine tq_icmp_ge dX2_begin_4 rfl ?_ ?_
  · exact Efy_State_begin_b2 hO _ _ _ ⟨some (.int q.1), rfl⟩
  · refine tq_aload_n dX2_begin_7 rfl ?_
    refine ty_gR dX2_begin_8 rfl rfl (fun x8 => ?_)
    refine tq_iload_n dX2_begin_11 rfl ?_
    refine tq_iload_n dX2_begin_12 rfl ?_
    refine tq_aload_n dX2_begin_13 rfl ?_
    refine ty_gR dX2_begin_14 rfl rfl (fun x14 => ?_)
    refine ty_v0_i dX2_begin_17 rfl rfl rfl (Nat.le_of_ble_eq_true rfl) (wfy_List_size hO (d := d + 2) _ _) (fun p17 => ?_)
    refine tq_icmp_ge dX2_begin_20 rfl ?_ ?_
    · refine tq_iconst (v := 0) dX2_begin_40 (by decide) ?_
      exact wfy_State_begin_j41 hO _ _ _ _ _ _ _
    · refine tq_aload_n dX2_begin_23 rfl ?_
      refine ty_gR dX2_begin_24 rfl rfl (fun x24 => ?_)
      refine tq_iload_n dX2_begin_27 rfl ?_
      refine ty_v1_r dX2_begin_28 rfl rfl rfl (Nat.le_of_ble_eq_true rfl) (wfy_List_get hO (d := d) _ _ _) (fun p28 => ?_)
      refine ty_cast dX2_begin_31 rfl (fun _ => ?_)
      refine ty_gI dX2_begin_34 rfl rfl (fun x34 => ?_)
      refine tq_goto dX2_begin_37 rfl ?_
      exact wfy_State_begin_j41 hO _ _ _ _ _ _ _
theorem Sfy_State_begin_b2 {G : ai_G} {d : Nat} {h0 : ai_H} (hO : hOld G h0) {α : Type} {P : α → Option ai_R → Prop} (v0 : Nat) (v1 : Nat) (b0 : Int32) (b1 : yS) (J : Unit) {r : yS → Option α} (kk : ∀ (q : yS) (J : JV), Tj G (d + 3) 15 P (r q) 76 [some (.ref v0), some (.ref v1), J.1] [] (yH q h0)) : Tj G (d + 3) 15 P ((lp (fy_State_begin_b2 G v0 v1) (b0, b1)).bind r) 2 [some (.ref v0), some (.ref v1), some (.int b0)] [] (yH b1 h0) := tq_lp1 (J := J) (fun q J => wfy_State_begin_b2 hO v0 v1 q J) rfl rfl kk
abbrev Pfy_State_begin_b78 (G : ai_G) (d : Nat) (h0 : ai_H) (v0 : Nat) (v1 : Nat) : (Int32 × yS) ⊕ yS → Option ai_R → Prop := Sum.elim (fun (q : Int32 × yS) run => ∃ J : Unit, run = ai_run G (d + 3) 15 78 [some (.ref v0), some (.ref v1), some (.int q.1)] [] (yH q.2 h0)) (fun (q : yS) run => ∃ J : JV, run = ai_run G (d + 3) 15 97 [some (.ref v0), some (.ref v1), J.1] [] (yH q h0))
theorem Bfy_State_begin_b78 {G : ai_G} {d : Nat} {h0 : ai_H} (hO : hOld G h0) (v0 : Nat) (v1 : Nat) (b0 : Int32) (b1 : yS) (J : Unit) : Tj G (d + 3) 15 (Pfy_State_begin_b78 G d h0 v0 v1) (some (.inl (b0, b1))) 78 [some (.ref v0), some (.ref v1), some (.int b0)] [] (yH b1 h0) := tq_back J rfl rfl
theorem Efy_State_begin_b78 {G : ai_G} {d : Nat} {h0 : ai_H} (hO : hOld G h0) (v0 : Nat) (v1 : Nat) (b0 : yS) (J : JV) : Tj G (d + 3) 15 (Pfy_State_begin_b78 G d h0 v0 v1) (some (.inr b0)) 97 [some (.ref v0), some (.ref v1), J.1] [] (yH b0 h0) := tq_exit J rfl rfl
theorem wfy_State_begin_b78 {G : ai_G} {d : Nat} {h0 : ai_H} (hO : hOld G h0) (v0 : Nat) (v1 : Nat) (q : Int32 × yS) (J : Unit) : Tj G (d + 3) 15 (Pfy_State_begin_b78 G d h0 v0 v1) (fy_State_begin_b78 G v0 v1 q) 78 [some (.ref v0), some (.ref v1), some (.int q.1)] [] (yH q.2 h0) := by
  unfold fy_State_begin_b78
  refine tq_iload_n dX2_begin_78 rfl ?_
  refine tq_bipush (v := 7) dX2_begin_79 (by decide) ?_
  refine tq_icmp_ge dX2_begin_81 rfl ?_ ?_
  · exact Efy_State_begin_b78 hO _ _ _ ⟨some (.int q.1), rfl⟩
  · refine tq_aload_n dX2_begin_84 rfl ?_
    refine ty_gR dX2_begin_85 rfl rfl (fun x85 => ?_)
    refine tq_iload_n dX2_begin_88 rfl ?_
    refine tq_iconst (v := (-1)) dX2_begin_89 (by decide) ?_
    refine ty_iast dX2_begin_90 (fun s90 => ?_)
    refine tq_iinc (v := (q.1 + 1)) (L' := [_, _, _]) dX2_begin_91 rfl (Nat.le_of_ble_eq_true rfl) rfl rfl ?_
    refine tq_goto dX2_begin_94 rfl ?_
    exact Bfy_State_begin_b78 hO _ _ _ _ ()
theorem Sfy_State_begin_b78 {G : ai_G} {d : Nat} {h0 : ai_H} (hO : hOld G h0) {α : Type} {P : α → Option ai_R → Prop} (v0 : Nat) (v1 : Nat) (b0 : Int32) (b1 : yS) (J : Unit) {r : yS → Option α} (kk : ∀ (q : yS) (J : JV), Tj G (d + 3) 15 P (r q) 97 [some (.ref v0), some (.ref v1), J.1] [] (yH q h0)) : Tj G (d + 3) 15 P ((lp (fy_State_begin_b78 G v0 v1) (b0, b1)).bind r) 78 [some (.ref v0), some (.ref v1), some (.int b0)] [] (yH b1 h0) := tq_lp1 (J := J) (fun q J => wfy_State_begin_b78 hO v0 v1 q J) rfl rfl kk
theorem wfy_State_begin {G : ai_G} {d : Nat} {h0 : ai_H} (hO : hOld G h0) (s : yS) (v0 : Nat) (v1 : Nat) : ∀ r, fy_State_begin G s v0 v1 = some r → (PyV h0) r (ai_call G (d + 4) 15 [.ref v0, .ref v1] (yH s h0)) := by
  refine tq_meth (P := (PyV h0)) (d := (d + 3)) (Nat.le_of_ble_eq_true rfl) ?_
  show Tj G (d + 3) 15 (PyV h0) (fy_State_begin G s v0 v1) 0 [some (.ref v0), some (.ref v1), none] [] (yH s h0)
  unfold fy_State_begin
  refine tq_iconst (v := 0) dX2_begin_0 (by decide) ?_
  refine tq_istore_n (L' := [_, _, _]) dX2_begin_1 (Nat.le_of_ble_eq_true rfl) rfl ?_
  refine Sfy_State_begin_b2 hO _ _ _ _ () (fun q2 J2 => ?_)
  refine tq_iconst (v := 0) dX2_begin_76 (by decide) ?_
  refine tq_istore_n (L' := [_, _, _]) dX2_begin_77 (Nat.le_of_ble_eq_true rfl) rfl ?_
  refine Sfy_State_begin_b78 hO _ _ _ _ () (fun q78 J78 => ?_)
  refine tq_aload_n dX2_begin_97 rfl ?_
  refine tq_aload_n dX2_begin_98 rfl ?_
  refine ty_gI dX2_begin_99 rfl rfl (fun x99 => ?_)
  refine ty_wI dX2_begin_102 rfl rfl rfl (fun s102 => ?_)
  exact tq_return dX2_begin_105 rfl rfl
abbrev Pfy_List_clear_b27 (G : ai_G) (d : Nat) (h0 : ai_H) (v1 : Nat) (v2 : Int32) : (Int32 × yS) ⊕ yS → Option ai_R → Prop := Sum.elim (fun (q : Int32 × yS) run => ∃ J : JV, run = ai_run G d 16 27 [J.1, some (.ref v1), some (.int v2), some (.int q.1)] [] (yH q.2 h0)) (fun (q : yS) run => ∃ J : JV × JV × JV × JV, run = ai_run G d 16 42 [J.1.1, J.2.1.1, J.2.2.1.1, J.2.2.2.1] [] (yH q h0))
theorem Bfy_List_clear_b27 {G : ai_G} {d : Nat} {h0 : ai_H} (hO : hOld G h0) (v1 : Nat) (v2 : Int32) (b0 : Int32) (b1 : yS) (J : JV) : Tj G d 16 (Pfy_List_clear_b27 G d h0 v1 v2) (some (.inl (b0, b1))) 27 [J.1, some (.ref v1), some (.int v2), some (.int b0)] [] (yH b1 h0) := tq_back J rfl rfl
theorem Efy_List_clear_b27 {G : ai_G} {d : Nat} {h0 : ai_H} (hO : hOld G h0) (v1 : Nat) (v2 : Int32) (b0 : yS) (J : JV × JV × JV × JV) : Tj G d 16 (Pfy_List_clear_b27 G d h0 v1 v2) (some (.inr b0)) 42 [J.1.1, J.2.1.1, J.2.2.1.1, J.2.2.2.1] [] (yH b0 h0) := tq_exit J rfl rfl
theorem wfy_List_clear_b27 {G : ai_G} {d : Nat} {h0 : ai_H} (hO : hOld G h0) (v1 : Nat) (v2 : Int32) (q : Int32 × yS) (J : JV) : Tj G d 16 (Pfy_List_clear_b27 G d h0 v1 v2) (fy_List_clear_b27 G v1 v2 q) 27 [J.1, some (.ref v1), some (.int v2), some (.int q.1)] [] (yH q.2 h0) := by
  unfold fy_List_clear_b27
  refine tq_iload_n dJ2_clear_27 rfl ?_
  refine tq_iload_n dJ2_clear_28 rfl ?_
  refine tq_icmp_ge dJ2_clear_29 rfl ?_ ?_
  · exact Efy_List_clear_b27 hO _ _ _ (J, ⟨some (.ref v1), rfl⟩, ⟨some (.int v2), rfl⟩, ⟨some (.int q.1), rfl⟩)
  · refine tq_aload_n dJ2_clear_32 rfl ?_
    refine tq_iload_n dJ2_clear_33 rfl ?_
    refine tq_null dJ2_clear_34 ?_
    refine ty_aast0 dJ2_clear_35 (fun s35 => ?_)
    refine tq_iinc (v := (q.1 + 1)) (L' := [_, _, _, _]) dJ2_clear_36 rfl (Nat.le_of_ble_eq_true rfl) rfl rfl ?_
    refine tq_goto dJ2_clear_39 rfl ?_
    exact Bfy_List_clear_b27 hO _ _ _ _ J
theorem Sfy_List_clear_b27 {G : ai_G} {d : Nat} {h0 : ai_H} (hO : hOld G h0) {α : Type} {P : α → Option ai_R → Prop} (v1 : Nat) (v2 : Int32) (b0 : Int32) (b1 : yS) (J : JV) {r : yS → Option α} (kk : ∀ (q : yS) (J : JV × JV × JV × JV), Tj G d 16 P (r q) 42 [J.1.1, J.2.1.1, J.2.2.1.1, J.2.2.2.1] [] (yH q h0)) : Tj G d 16 P ((lp (fy_List_clear_b27 G v1 v2) (b0, b1)).bind r) 27 [J.1, some (.ref v1), some (.int v2), some (.int b0)] [] (yH b1 h0) := tq_lp1 (J := J) (fun q J => wfy_List_clear_b27 hO v1 v2 q J) rfl rfl kk
theorem wfy_List_clear {G : ai_G} {d : Nat} {h0 : ai_H} (hO : hOld G h0) (s : yS) (v0 : Nat) : ∀ r, fy_List_clear G s v0 = some r → (PyV h0) r (ai_call G (d + 1) 16 [.ref v0] (yH s h0)) := by
  refine tq_meth (P := (PyV h0)) (d := d) (Nat.le_of_ble_eq_true rfl) ?_
  show Tj G d 16 (PyV h0) (fy_List_clear G s v0) 0 [some (.ref v0), none, none, none] [] (yH s h0)
  unfold fy_List_clear
  refine tq_aload_n dJ2_clear_0 rfl ?_
  refine tq_dup dJ2_clear_1 rfl ?_
  refine ty_gI dJ2_clear_2 rfl rfl (fun x2 => ?_)
  refine tq_iconst (v := 1) dJ2_clear_5 (by decide) ?_
  refine tq_iadd dJ2_clear_6 ?_
  refine ty_wI dJ2_clear_7 rfl rfl rfl (fun s7 => ?_)
  refine tq_aload_n dJ2_clear_10 rfl ?_
  refine ty_gR dJ2_clear_11 rfl rfl (fun x11 => ?_)
  refine tq_astore_n (L' := [_, _, _, _]) dJ2_clear_14 (Nat.le_of_ble_eq_true rfl) rfl ?_
  refine tq_aload_n dJ2_clear_15 rfl ?_
  refine ty_gI dJ2_clear_16 rfl rfl (fun x16 => ?_)
  refine tq_istore_n (L' := [_, _, _, _]) dJ2_clear_19 (Nat.le_of_ble_eq_true rfl) rfl ?_
  refine tq_aload_n dJ2_clear_20 rfl ?_
  refine tq_iconst (v := 0) dJ2_clear_21 (by decide) ?_
  refine tq_dup_x1 dJ2_clear_22 rfl rfl ?_
  refine ty_wI dJ2_clear_23 rfl rfl rfl (fun s23 => ?_)
  refine tq_istore_n (L' := [_, _, _, _]) dJ2_clear_26 (Nat.le_of_ble_eq_true rfl) rfl ?_
  refine Sfy_List_clear_b27 hO _ _ _ _ ⟨some (.ref v0), rfl⟩ (fun q27 J27 => ?_)
  exact tq_return dJ2_clear_42 rfl rfl
abbrev Pfy_B_start_b39 (G : ai_G) (d : Nat) (h0 : ai_H) (v0 : Nat) : (Int32 × yS) ⊕ yS → Option ai_R → Prop := Sum.elim (fun (q : Int32 × yS) run => ∃ J : Unit, run = ai_run G (d + 4) 17 39 [some (.ref v0), some (.int q.1)] [] (yH q.2 h0)) (fun (q : yS) run => ∃ J : JV × JV, run = ai_run G (d + 4) 17 60 [J.1.1, J.2.1] [] (yH q h0))
theorem Bfy_B_start_b39 {G : ai_G} {d : Nat} {h0 : ai_H} (hO : hOld G h0) (v0 : Nat) (b0 : Int32) (b1 : yS) (J : Unit) : Tj G (d + 4) 17 (Pfy_B_start_b39 G d h0 v0) (some (.inl (b0, b1))) 39 [some (.ref v0), some (.int b0)] [] (yH b1 h0) := tq_back J rfl rfl
theorem Efy_B_start_b39 {G : ai_G} {d : Nat} {h0 : ai_H} (hO : hOld G h0) (v0 : Nat) (b0 : yS) (J : JV × JV) : Tj G (d + 4) 17 (Pfy_B_start_b39 G d h0 v0) (some (.inr b0)) 60 [J.1.1, J.2.1] [] (yH b0 h0) := tq_exit J rfl rfl
theorem wfy_B_start_b39 {G : ai_G} {d : Nat} {h0 : ai_H} (hO : hOld G h0) (v0 : Nat) (q : Int32 × yS) (J : Unit) : Tj G (d + 4) 17 (Pfy_B_start_b39 G d h0 v0) (fy_B_start_b39 G v0 q) 39 [some (.ref v0), some (.int q.1)] [] (yH q.2 h0) := by
  unfold fy_B_start_b39
  refine tq_iload_n dX0_start_39 rfl ?_
  refine tq_iconst (v := 3) dX0_start_40 (by decide) ?_
  refine tq_icmp_ge dX0_start_41 rfl ?_ ?_
  · exact Efy_B_start_b39 hO _ _ (⟨some (.ref v0), rfl⟩, ⟨some (.int q.1), rfl⟩)
  · refine tq_aload_n dX0_start_44 rfl ?_
    refine ty_gR dX0_start_45 rfl rfl (fun x45 => ?_)
    refine tq_iload_n dX0_start_48 rfl ?_
    refine ty_aald hO dX0_start_49 (fun x49 => ?_)
    refine tq_null dX0_start_50 ?_
    refine ty_wR0 dX0_start_51 rfl rfl rfl (fun s51 => ?_)
    refine tq_iinc (v := (q.1 + 1)) (L' := [_, _]) dX0_start_54 rfl (Nat.le_of_ble_eq_true rfl) rfl rfl ?_
    refine tq_goto dX0_start_57 rfl ?_
    exact Bfy_B_start_b39 hO _ _ _ ()
theorem Sfy_B_start_b39 {G : ai_G} {d : Nat} {h0 : ai_H} (hO : hOld G h0) {α : Type} {P : α → Option ai_R → Prop} (v0 : Nat) (b0 : Int32) (b1 : yS) (J : Unit) {r : yS → Option α} (kk : ∀ (q : yS) (J : JV × JV), Tj G (d + 4) 17 P (r q) 60 [J.1.1, J.2.1] [] (yH q h0)) : Tj G (d + 4) 17 P ((lp (fy_B_start_b39 G v0) (b0, b1)).bind r) 39 [some (.ref v0), some (.int b0)] [] (yH b1 h0) := tq_lp1 (J := J) (fun q J => wfy_B_start_b39 hO v0 q J) rfl rfl kk
theorem wfy_B_start {G : ai_G} {d : Nat} {h0 : ai_H} (hO : hOld G h0) (s : yS) (v0 : Nat) : ∀ r, fy_B_start G s v0 = some r → (PyV h0) r (ai_call G (d + 5) 17 [.ref v0] (yH s h0)) := by
  refine tq_meth (P := (PyV h0)) (d := (d + 4)) (Nat.le_of_ble_eq_true rfl) ?_
  show Tj G (d + 4) 17 (PyV h0) (fy_B_start G s v0) 0 [some (.ref v0), none] [] (yH s h0)
  unfold fy_B_start
  refine tq_aload_n dX0_start_0 rfl ?_
  refine ty_gR dX0_start_1 rfl rfl (fun x1 => ?_)
  refine tq_aload_n dX0_start_4 rfl ?_
  refine ty_gR dX0_start_5 rfl rfl (fun x5 => ?_)
  refine ty_v1_V dX0_start_8 rfl rfl rfl (Nat.le_of_ble_eq_true rfl) (wfy_State_begin hO (d := d) _ _ _) (fun p8 => ?_)
  refine tq_aload_n dX0_start_11 rfl ?_
  refine ty_gR dX0_start_12 rfl rfl (fun x12 => ?_)
  refine ty_v0_V dX0_start_15 rfl rfl rfl (Nat.le_of_ble_eq_true rfl) (wfy_List_clear hO (d := d + 3) _ _) (fun p15 => ?_)
  refine tq_aload_n dX0_start_18 rfl ?_
  refine ty_gR dX0_start_19 rfl rfl (fun x19 => ?_)
  refine ty_v0_V dX0_start_22 rfl rfl rfl (Nat.le_of_ble_eq_true rfl) (wfy_List_clear hO (d := d + 3) _ _) (fun p22 => ?_)
  refine tq_aload_n dX0_start_25 rfl ?_
  refine ty_gR dX0_start_26 rfl rfl (fun x26 => ?_)
  refine ty_v0_V dX0_start_29 rfl rfl rfl (Nat.le_of_ble_eq_true rfl) (wfy_List_clear hO (d := d + 3) _ _) (fun p29 => ?_)
  refine tq_aload_n dX0_start_32 rfl ?_
  refine tq_iconst (v := 0) dX0_start_33 (by decide) ?_
  refine ty_wI dX0_start_34 rfl rfl rfl (fun s34 => ?_)
  refine tq_iconst (v := 0) dX0_start_37 (by decide) ?_
  refine tq_istore_n (L' := [_, _]) dX0_start_38 (Nat.le_of_ble_eq_true rfl) rfl ?_
  refine Sfy_B_start_b39 hO _ _ _ () (fun q39 J39 => ?_)
  exact tq_return dX0_start_60 rfl rfl
theorem wfy_B_init {G : ai_G} {d : Nat} {h0 : ai_H} (hO : hOld G h0) (s : yS) (v0 : Nat) : ∀ r, fy_B_init G s v0 = some r → (PyV h0) r (ai_call G (d + 6) 18 [.ref v0] (yH s h0)) := by
  refine tq_meth (P := (PyV h0)) (d := (d + 5)) (Nat.le_of_ble_eq_true rfl) ?_
  show Tj G (d + 5) 18 (PyV h0) (fy_B_init G s v0) 0 [some (.ref v0)] [] (yH s h0)
  unfold fy_B_init
  refine tq_aload_n dX0_init_0 rfl ?_
  refine tq_objI dX0_init_1 rfl (Nat.le_of_ble_eq_true rfl) ?_
  refine tq_aload_n dX0_init_4 rfl ?_
  refine ty_new dX0_init_5 rfl (fun s5 => ?_)
  refine tq_dup dX0_init_8 rfl ?_
  refine ty_c0_V dX0_init_9 rfl rfl rfl (Nat.le_of_ble_eq_true rfl) (wfy_River_init hO (d := d + 1) _ _) (fun p9 => ?_)
  refine ty_wRr dX0_init_12 rfl rfl rfl (fun s12 => ?_)
  refine tq_aload_n dX0_init_15 rfl ?_
  refine ty_new dX0_init_16 rfl (fun s16 => ?_)
  refine tq_dup dX0_init_19 rfl ?_
  refine ty_c0_V dX0_init_20 rfl rfl rfl (Nat.le_of_ble_eq_true rfl) (wfy_State_init hO (d := d + 4) _ _) (fun p20 => ?_)
  refine ty_wRr dX0_init_23 rfl rfl rfl (fun s23 => ?_)
  refine tq_aload_n dX0_init_26 rfl ?_
  refine ty_new dX0_init_27 rfl (fun s27 => ?_)
  refine tq_dup dX0_init_30 rfl ?_
  refine ty_c0_V dX0_init_31 rfl rfl rfl (Nat.le_of_ble_eq_true rfl) (wfy_State_init hO (d := d + 4) _ _) (fun p31 => ?_)
  refine ty_wRr dX0_init_34 rfl rfl rfl (fun s34 => ?_)
  refine tq_aload_n dX0_init_37 rfl ?_
  refine tq_sipush (v := 1600) dX0_init_38 (by decide) ?_
  refine ty_newB dX0_init_41 (fun s41 => ?_)
  refine ty_wRr dX0_init_43 rfl rfl rfl (fun s43 => ?_)
  refine tq_aload_n dX0_init_46 rfl ?_
  refine ty_new dX0_init_47 rfl (fun s47 => ?_)
  refine tq_dup dX0_init_50 rfl ?_
  refine ty_wrongI dX0_init_51 rfl rfl (Nat.le_of_ble_eq_true rfl) (fun _ => ?_)
  refine ty_wRr dX0_init_54 rfl rfl rfl (fun s54 => ?_)
  refine tq_aload_n dX0_init_57 rfl ?_
  refine tq_iconst (v := (-1)) dX0_init_58 (by decide) ?_
  refine ty_wI dX0_init_59 rfl rfl rfl (fun s59 => ?_)
  refine tq_aload_n dX0_init_62 rfl ?_
  refine ty_new dX0_init_63 rfl (fun s63 => ?_)
  refine tq_dup dX0_init_66 rfl ?_
  refine ty_c0_V dX0_init_67 rfl rfl rfl (Nat.le_of_ble_eq_true rfl) (wfy_List_init hO (d := d + 2) _ _) (fun p67 => ?_)
  refine ty_wRr dX0_init_70 rfl rfl rfl (fun s70 => ?_)
  refine tq_aload_n dX0_init_73 rfl ?_
  refine ty_new dX0_init_74 rfl (fun s74 => ?_)
  refine tq_dup dX0_init_77 rfl ?_
  refine ty_c0_V dX0_init_78 rfl rfl rfl (Nat.le_of_ble_eq_true rfl) (wfy_List_init hO (d := d + 2) _ _) (fun p78 => ?_)
  refine ty_wRr dX0_init_81 rfl rfl rfl (fun s81 => ?_)
  refine tq_aload_n dX0_init_84 rfl ?_
  refine tq_bipush (v := 7) dX0_init_85 (by decide) ?_
  refine ty_newI dX0_init_87 (fun s87 => ?_)
  refine ty_wRr dX0_init_89 rfl rfl rfl (fun s89 => ?_)
  refine tq_aload_n dX0_init_92 rfl ?_
  refine tq_bipush (v := 7) dX0_init_93 (by decide) ?_
  refine ty_newI dX0_init_95 (fun s95 => ?_)
  refine ty_wRr dX0_init_97 rfl rfl rfl (fun s97 => ?_)
  refine tq_aload_n dX0_init_100 rfl ?_
  refine ty_new dX0_init_101 rfl (fun s101 => ?_)
  refine tq_dup dX0_init_104 rfl ?_
  refine tq_aload_n dX0_init_105 rfl ?_
  refine ty_c1_V dX0_init_106 rfl rfl rfl (Nat.le_of_ble_eq_true rfl) (wfy_Coolest_init hO (d := d + 3) _ _ _) (fun p106 => ?_)
  refine ty_wRr dX0_init_109 rfl rfl rfl (fun s109 => ?_)
  refine tq_aload_n dX0_init_112 rfl ?_
  refine ty_new dX0_init_113 rfl (fun s113 => ?_)
  refine tq_dup dX0_init_116 rfl ?_
  refine tq_aload_n dX0_init_117 rfl ?_
  refine ty_c1_V dX0_init_118 rfl rfl rfl (Nat.le_of_ble_eq_true rfl) (wfy_Straightest_init hO (d := d + 3) _ _ _) (fun p118 => ?_)
  refine ty_wRr dX0_init_121 rfl rfl rfl (fun s121 => ?_)
  refine tq_aload_n dX0_init_124 rfl ?_
  refine tq_bipush (v := 8) dX0_init_125 (by decide) ?_
  refine ty_newI dX0_init_127 (fun s127 => ?_)
  refine ty_wRr dX0_init_129 rfl rfl rfl (fun s129 => ?_)
  refine tq_aload_n dX0_init_132 rfl ?_
  refine tq_bipush (v := 64) dX0_init_133 (by decide) ?_
  refine ty_newZ dX0_init_135 (fun s135 => ?_)
  refine ty_wRr dX0_init_137 rfl rfl rfl (fun s137 => ?_)
  refine tq_aload_n dX0_init_140 rfl ?_
  refine tq_bipush (v := 64) dX0_init_141 (by decide) ?_
  refine ty_newZ dX0_init_143 (fun s143 => ?_)
  refine ty_wRr dX0_init_145 rfl rfl rfl (fun s145 => ?_)
  refine tq_aload_n dX0_init_148 rfl ?_
  refine tq_iconst (v := 4) dX0_init_149 (by decide) ?_
  refine ty_newI dX0_init_150 (fun s150 => ?_)
  refine ty_wRr dX0_init_152 rfl rfl rfl (fun s152 => ?_)
  refine tq_aload_n dX0_init_155 rfl ?_
  refine ty_new dX0_init_156 rfl (fun s156 => ?_)
  refine tq_dup dX0_init_159 rfl ?_
  refine ty_c0_V dX0_init_160 rfl rfl rfl (Nat.le_of_ble_eq_true rfl) (wfy_List_init hO (d := d + 2) _ _) (fun p160 => ?_)
  refine ty_wRr dX0_init_163 rfl rfl rfl (fun s163 => ?_)
  refine tq_aload_n dX0_init_166 rfl ?_
  refine tq_sipush (v := 4374) dX0_init_167 (by decide) ?_
  refine ty_newI dX0_init_170 (fun s170 => ?_)
  refine ty_wRr dX0_init_172 rfl rfl rfl (fun s172 => ?_)
  refine tq_aload_n dX0_init_175 rfl ?_
  refine tq_sipush (v := 4374) dX0_init_176 (by decide) ?_
  refine ty_newI dX0_init_179 (fun s179 => ?_)
  refine ty_wRr dX0_init_181 rfl rfl rfl (fun s181 => ?_)
  refine tq_aload_n dX0_init_184 rfl ?_
  refine tq_bipush (v := 18) dX0_init_185 (by decide) ?_
  refine ty_newI dX0_init_187 (fun s187 => ?_)
  refine ty_wRr dX0_init_189 rfl rfl rfl (fun s189 => ?_)
  refine tq_aload_n dX0_init_192 rfl ?_
  refine tq_iconst (v := 3) dX0_init_193 (by decide) ?_
  refine ty_anew dX0_init_194 rfl (Nat.le_of_ble_eq_true rfl) (fun s194 => ?_)
  refine tq_dup dX0_init_197 rfl ?_
  refine tq_iconst (v := 0) dX0_init_198 (by decide) ?_
  refine ty_new dX0_init_199 rfl (fun s199 => ?_)
  refine tq_dup dX0_init_202 rfl ?_
  refine tq_null dX0_init_203 ?_
  refine ty_c1_V dX0_init_204 rfl rfl rfl (Nat.le_of_ble_eq_true rfl) (wfy_Kept_init hO (d := d + 4) _ _ _) (fun p204 => ?_)
  refine ty_aastR dX0_init_207 (fun s207 => ?_)
  refine tq_dup dX0_init_208 rfl ?_
  refine tq_iconst (v := 1) dX0_init_209 (by decide) ?_
  refine ty_new dX0_init_210 rfl (fun s210 => ?_)
  refine tq_dup dX0_init_213 rfl ?_
  refine tq_null dX0_init_214 ?_
  refine ty_c1_V dX0_init_215 rfl rfl rfl (Nat.le_of_ble_eq_true rfl) (wfy_Kept_init hO (d := d + 4) _ _ _) (fun p215 => ?_)
  refine ty_aastR dX0_init_218 (fun s218 => ?_)
  refine tq_dup dX0_init_219 rfl ?_
  refine tq_iconst (v := 2) dX0_init_220 (by decide) ?_
  refine ty_new dX0_init_221 rfl (fun s221 => ?_)
  refine tq_dup dX0_init_224 rfl ?_
  refine tq_null dX0_init_225 ?_
  refine ty_c1_V dX0_init_226 rfl rfl rfl (Nat.le_of_ble_eq_true rfl) (wfy_Kept_init hO (d := d + 4) _ _ _) (fun p226 => ?_)
  refine ty_aastR dX0_init_229 (fun s229 => ?_)
  refine ty_wRr dX0_init_230 rfl rfl rfl (fun s230 => ?_)
  refine tq_aload_n dX0_init_233 rfl ?_
  refine ty_v0_V dX0_init_234 rfl rfl rfl (Nat.le_of_ble_eq_true rfl) (wfy_B_start hO (d := d) _ _) (fun p234 => ?_)
  exact tq_return dX0_init_237 rfl rfl
abbrev Pfy_B_bytes_b3 (G : ai_G) (d : Nat) (h0 : ai_H) (v0 : Nat) (v1 : Int32) : (Int32 × yS) ⊕ yS → Option ai_R → Prop := Sum.elim (fun (q : Int32 × yS) run => ∃ J : Unit, run = ai_run G d 20 3 [some (.ref v0), some (.int v1), some (.int q.1)] [] (yH q.2 h0)) (fun (q : yS) run => ∃ J : JV × JV × JV, run = ai_run G d 20 36 [J.1.1, J.2.1.1, J.2.2.1] [] (yH q h0))
theorem Bfy_B_bytes_b3 {G : ai_G} {d : Nat} {h0 : ai_H} (hO : hOld G h0) (v0 : Nat) (v1 : Int32) (b0 : Int32) (b1 : yS) (J : Unit) : Tj G d 20 (Pfy_B_bytes_b3 G d h0 v0 v1) (some (.inl (b0, b1))) 3 [some (.ref v0), some (.int v1), some (.int b0)] [] (yH b1 h0) := tq_back J rfl rfl
theorem Efy_B_bytes_b3 {G : ai_G} {d : Nat} {h0 : ai_H} (hO : hOld G h0) (v0 : Nat) (v1 : Int32) (b0 : yS) (J : JV × JV × JV) : Tj G d 20 (Pfy_B_bytes_b3 G d h0 v0 v1) (some (.inr b0)) 36 [J.1.1, J.2.1.1, J.2.2.1] [] (yH b0 h0) := tq_exit J rfl rfl
theorem wfy_B_bytes_b3 {G : ai_G} {d : Nat} {h0 : ai_H} (hO : hOld G h0) (v0 : Nat) (v1 : Int32) (q : Int32 × yS) (J : Unit) : Tj G d 20 (Pfy_B_bytes_b3 G d h0 v0 v1) (fy_B_bytes_b3 G v0 v1 q) 3 [some (.ref v0), some (.int v1), some (.int q.1)] [] (yH q.2 h0) := by
  unfold fy_B_bytes_b3
  refine tq_iload_n dX0_bytes_3 rfl ?_
  refine tq_if_lt dX0_bytes_4 rfl ?_ ?_
  · exact Efy_B_bytes_b3 hO _ _ _ (⟨some (.ref v0), rfl⟩, ⟨some (.int v1), rfl⟩, ⟨some (.int q.1), rfl⟩)
  · refine tq_aload_n dX0_bytes_7 rfl ?_
    refine ty_gR dX0_bytes_8 rfl rfl (fun x8 => ?_)
    refine tq_aload_n dX0_bytes_11 rfl ?_
    refine ty_gI dX0_bytes_12 rfl rfl (fun x12 => ?_)
    refine tq_iload_n dX0_bytes_15 rfl ?_
    refine tq_iload_n dX0_bytes_16 rfl ?_
    refine tq_ishr dX0_bytes_17 ?_
    refine tq_i2b dX0_bytes_18 ?_
    refine ty_bast dX0_bytes_19 (fun s19 => ?_)
    refine tq_aload_n dX0_bytes_20 rfl ?_
    refine tq_dup dX0_bytes_21 rfl ?_
    refine ty_gI dX0_bytes_22 rfl rfl (fun x22 => ?_)
    refine tq_iconst (v := 1) dX0_bytes_25 (by decide) ?_
    refine tq_iadd dX0_bytes_26 ?_
    refine ty_wI dX0_bytes_27 rfl rfl rfl (fun s27 => ?_)
    refine tq_iinc (v := (q.1 + (-8))) (L' := [_, _, _]) dX0_bytes_30 rfl (Nat.le_of_ble_eq_true rfl) rfl rfl ?_
    refine tq_goto dX0_bytes_33 rfl ?_
    exact Bfy_B_bytes_b3 hO _ _ _ _ ()
theorem Sfy_B_bytes_b3 {G : ai_G} {d : Nat} {h0 : ai_H} (hO : hOld G h0) {α : Type} {P : α → Option ai_R → Prop} (v0 : Nat) (v1 : Int32) (b0 : Int32) (b1 : yS) (J : Unit) {r : yS → Option α} (kk : ∀ (q : yS) (J : JV × JV × JV), Tj G d 20 P (r q) 36 [J.1.1, J.2.1.1, J.2.2.1] [] (yH q h0)) : Tj G d 20 P ((lp (fy_B_bytes_b3 G v0 v1) (b0, b1)).bind r) 3 [some (.ref v0), some (.int v1), some (.int b0)] [] (yH b1 h0) := tq_lp1 (J := J) (fun q J => wfy_B_bytes_b3 hO v0 v1 q J) rfl rfl kk
theorem wfy_B_bytes {G : ai_G} {d : Nat} {h0 : ai_H} (hO : hOld G h0) (s : yS) (v0 : Nat) (v1 : Int32) : ∀ r, fy_B_bytes G s v0 v1 = some r → (PyV h0) r (ai_call G (d + 1) 20 [.ref v0, .int v1] (yH s h0)) := by
  refine tq_meth (P := (PyV h0)) (d := d) (Nat.le_of_ble_eq_true rfl) ?_
  show Tj G d 20 (PyV h0) (fy_B_bytes G s v0 v1) 0 [some (.ref v0), some (.int v1), none] [] (yH s h0)
  unfold fy_B_bytes
  refine tq_bipush (v := 24) dX0_bytes_0 (by decide) ?_
  refine tq_istore_n (L' := [_, _, _]) dX0_bytes_2 (Nat.le_of_ble_eq_true rfl) rfl ?_
  refine Sfy_B_bytes_b3 hO _ _ _ _ () (fun q3 J3 => ?_)
  exact tq_return dX0_bytes_36 rfl rfl
theorem wfy_B_feed {G : ai_G} {d : Nat} {h0 : ai_H} (hO : hOld G h0) (s : yS) (v0 : Nat) (v1 : Int32) (v2 : Int32) (v3 : Int32) (v4 : Int32) (v5 : Int32) : ∀ r, fy_B_feed G s v0 v1 v2 v3 v4 v5 = some r → (PyI h0) r (ai_call G (d + 2) 21 [.ref v0, .int v1, .int v2, .int v3, .int v4, .int v5] (yH s h0)) := by
  refine tq_meth (P := (PyI h0)) (d := (d + 1)) (Nat.le_of_ble_eq_true rfl) ?_
  show Tj G (d + 1) 21 (PyI h0) (fy_B_feed G s v0 v1 v2 v3 v4 v5) 0 [some (.ref v0), some (.int v1), some (.int v2), some (.int v3), some (.int v4), some (.int v5)] [] (yH s h0)
  unfold fy_B_feed
  refine tq_aload_n dX0_feed_0 rfl ?_
  refine ty_gI dX0_feed_1 rfl rfl (fun x1 => ?_)
  refine tq_bipush (v := 20) dX0_feed_4 (by decide) ?_
  refine tq_iadd dX0_feed_6 ?_
  refine tq_sipush (v := 1600) dX0_feed_7 (by decide) ?_
  refine tq_icmp_le dX0_feed_10 rfl ?_ ?_
  · refine tq_aload_n dX0_feed_15 rfl ?_
    refine tq_iload_n dX0_feed_16 rfl ?_
    refine ty_v1_V dX0_feed_17 rfl rfl rfl (Nat.le_of_ble_eq_true rfl) (wfy_B_bytes hO (d := d) _ _ _) (fun p17 => ?_)
    refine tq_aload_n dX0_feed_20 rfl ?_
    refine tq_iload_n dX0_feed_21 rfl ?_
    refine ty_v1_V dX0_feed_22 rfl rfl rfl (Nat.le_of_ble_eq_true rfl) (wfy_B_bytes hO (d := d) _ _ _) (fun p22 => ?_)
    refine tq_aload_n dX0_feed_25 rfl ?_
    refine tq_iload_n dX0_feed_26 rfl ?_
    refine ty_v1_V dX0_feed_27 rfl rfl rfl (Nat.le_of_ble_eq_true rfl) (wfy_B_bytes hO (d := d) _ _ _) (fun p27 => ?_)
    refine tq_aload_n dX0_feed_30 rfl ?_
    refine tq_iload dX0_feed_31 rfl ?_
    refine ty_v1_V dX0_feed_33 rfl rfl rfl (Nat.le_of_ble_eq_true rfl) (wfy_B_bytes hO (d := d) _ _ _) (fun p33 => ?_)
    refine tq_aload_n dX0_feed_36 rfl ?_
    refine tq_iload dX0_feed_37 rfl ?_
    refine ty_v1_V dX0_feed_39 rfl rfl rfl (Nat.le_of_ble_eq_true rfl) (wfy_B_bytes hO (d := d) _ _ _) (fun p39 => ?_)
    refine tq_aload_n dX0_feed_42 rfl ?_
    refine ty_gI dX0_feed_43 rfl rfl (fun x43 => ?_)
    exact tq_ireturn dX0_feed_46 rfl rfl
  · refine tq_iconst (v := (-1)) dX0_feed_13 (by decide) ?_
    exact tq_ireturn dX0_feed_14 rfl rfl
theorem wfy_B_end {G : ai_G} {d : Nat} {h0 : ai_H} (hO : hOld G h0) (s : yS) (v0 : Nat) (v1 : Int32) : ∀ r, fy_B_end G s v0 v1 = some r → (PyI h0) r (ai_call G (d + 1) 24 [.ref v0, .int v1] (yH s h0)) := by
  refine tq_meth (P := (PyI h0)) (d := d) (Nat.le_of_ble_eq_true rfl) ?_
  show Tj G d 24 (PyI h0) (fy_B_end G s v0 v1) 0 [some (.ref v0), some (.int v1)] [] (yH s h0)
  unfold fy_B_end
  refine tq_iload_n dX0_end_0 rfl ?_
  refine tq_if_lt dX0_end_1 rfl ?_ ?_
  · refine tq_iconst (v := (-1)) dX0_end_12 (by decide) ?_
    exact tq_ireturn dX0_end_13 rfl rfl
  · refine tq_iload_n dX0_end_4 rfl ?_
    refine tq_aload_n dX0_end_5 rfl ?_
    refine ty_gI dX0_end_6 rfl rfl (fun x6 => ?_)
    refine tq_icmp_le dX0_end_9 rfl ?_ ?_
    · refine tq_aload_n dX0_end_14 rfl ?_
      refine tq_iload_n dX0_end_15 rfl ?_
      refine ty_wI dX0_end_16 rfl rfl rfl (fun s16 => ?_)
      refine tq_iload_n dX0_end_19 rfl ?_
      exact tq_ireturn dX0_end_20 rfl rfl
    · refine tq_iconst (v := (-1)) dX0_end_12 (by decide) ?_
      exact tq_ireturn dX0_end_13 rfl rfl
theorem wfy_Reader_init {G : ai_G} {d : Nat} {h0 : ai_H} (hO : hOld G h0) (s : yS) (v0 : Nat) (v1 : Nat) (v2 : Int32) (v3 : Nat) : ∀ r, fy_Reader_init G s v0 v1 v2 v3 = some r → (PyV h0) r (ai_call G (d + 5) 26 [.ref v0, .ref v1, .int v2, .ref v3] (yH s h0)) := by
  refine tq_meth (P := (PyV h0)) (d := (d + 4)) (Nat.le_of_ble_eq_true rfl) ?_
  show Tj G (d + 4) 26 (PyV h0) (fy_Reader_init G s v0 v1 v2 v3) 0 [some (.ref v0), some (.ref v1), some (.int v2), some (.ref v3)] [] (yH s h0)
  unfold fy_Reader_init
  refine tq_aload_n dX9_init_0 rfl ?_
  refine tq_objI dX9_init_1 rfl (Nat.le_of_ble_eq_true rfl) ?_
  refine tq_aload_n dX9_init_4 rfl ?_
  refine ty_new dX9_init_5 rfl (fun s5 => ?_)
  refine tq_dup dX9_init_8 rfl ?_
  refine ty_c0_V dX9_init_9 rfl rfl rfl (Nat.le_of_ble_eq_true rfl) (wfy_River_init hO (d := d) _ _) (fun p9 => ?_)
  refine ty_wRr dX9_init_12 rfl rfl rfl (fun s12 => ?_)
  refine tq_aload_n dX9_init_15 rfl ?_
  refine tq_aload_n dX9_init_16 rfl ?_
  refine ty_wRr dX9_init_17 rfl rfl rfl (fun s17 => ?_)
  refine tq_aload_n dX9_init_20 rfl ?_
  refine tq_iload_n dX9_init_21 rfl ?_
  refine ty_wI dX9_init_22 rfl rfl rfl (fun s22 => ?_)
  refine tq_aload_n dX9_init_25 rfl ?_
  refine tq_aload_n dX9_init_26 rfl ?_
  refine ty_wRr dX9_init_27 rfl rfl rfl (fun s27 => ?_)
  exact tq_return dX9_init_30 rfl rfl
theorem wfy_Reader_sign {G : ai_G} {d : Nat} {h0 : ai_H} (hO : hOld G h0) (s : yS) (v0 : Nat) (v1 : Int32) : ∀ r, fy_Reader_sign G s v0 v1 = some r → (Pi (yH s h0)) r (ai_call G (d + 1) 27 [.ref v0, .int v1] (yH s h0)) := by
  refine tq_meth (P := (Pi (yH s h0))) (d := d) (Nat.le_of_ble_eq_true rfl) ?_
  show Tj G d 27 (Pi (yH s h0)) (fy_Reader_sign G s v0 v1) 0 [some (.ref v0), some (.int v1)] [] (yH s h0)
  unfold fy_Reader_sign
  refine tq_iload_n dX9_sign_0 rfl ?_
  refine tq_aload_n dX9_sign_1 rfl ?_
  refine ty_gI dX9_sign_2 rfl rfl (fun x2 => ?_)
  refine tq_icmp_ge dX9_sign_5 rfl ?_ ?_
  · refine tq_iconst (v := 0) dX9_sign_21 (by decide) ?_
    exact tq_ireturn dX9_sign_22 rfl rfl
  · refine tq_aload_n dX9_sign_8 rfl ?_
    refine ty_gR dX9_sign_9 rfl rfl (fun x9 => ?_)
    refine tq_iload_n dX9_sign_12 rfl ?_
    refine ty_bald hO dX9_sign_13 (fun x13 => ?_)
    refine tq_sipush (v := 255) dX9_sign_14 (by decide) ?_
    refine tq_iand dX9_sign_17 ?_
    refine tq_goto dX9_sign_18 rfl ?_
    exact tq_ireturn dX9_sign_22 rfl rfl
theorem wfy_Reader_isLetter {G : ai_G} {d : Nat} {h : ai_H} (v0 : Int32) : ∀ r, fy_Reader_isLetter v0 = some r → (Pi h) r (ai_call G (d + 1) 28 [.int v0] h) := by
  refine tq_meth (P := (Pi h)) (d := d) (Nat.le_of_ble_eq_true rfl) ?_
  show Tj G d 28 (Pi h) (fy_Reader_isLetter v0) 0 [some (.int v0)] [] h
  unfold fy_Reader_isLetter
  refine tq_iload_n dX9_isLetter_0 rfl ?_
  refine tq_bipush (v := 97) dX9_isLetter_1 (by decide) ?_
  refine tq_icmp_lt dX9_isLetter_3 rfl ?_ ?_
  · refine tq_iconst (v := 0) dX9_isLetter_16 (by decide) ?_
    exact tq_ireturn dX9_isLetter_17 (by decide) rfl
  · refine tq_iload_n dX9_isLetter_6 rfl ?_
    refine tq_bipush (v := 122) dX9_isLetter_7 (by decide) ?_
    refine tq_icmp_gt dX9_isLetter_9 rfl ?_ ?_
    · refine tq_iconst (v := 0) dX9_isLetter_16 (by decide) ?_
      exact tq_ireturn dX9_isLetter_17 (by decide) rfl
    · refine tq_iconst (v := 1) dX9_isLetter_12 (by decide) ?_
      refine tq_goto dX9_isLetter_13 rfl ?_
      exact tq_ireturn dX9_isLetter_17 (by decide) rfl
abbrev Pfy_Reader_readWord_b18 (G : ai_G) (d : Nat) (h0 : ai_H) (v0 : Nat) : yS ⊕ yS → Option ai_R → Prop := Sum.elim (fun (q : yS) run => ∃ J : Unit, run = ai_run G (d + 1) 29 18 [some (.ref v0)] [] (yH q h0)) (fun (q : yS) run => ∃ J : Unit, run = ai_run G (d + 1) 29 87 [some (.ref v0)] [] (yH q h0))
theorem Bfy_Reader_readWord_b18 {G : ai_G} {d : Nat} {h0 : ai_H} (hO : hOld G h0) (v0 : Nat) (b0 : yS) (J : Unit) : Tj G (d + 1) 29 (Pfy_Reader_readWord_b18 G d h0 v0) (some (.inl b0)) 18 [some (.ref v0)] [] (yH b0 h0) := tq_back J rfl rfl
theorem Efy_Reader_readWord_b18 {G : ai_G} {d : Nat} {h0 : ai_H} (hO : hOld G h0) (v0 : Nat) (b0 : yS) (J : Unit) : Tj G (d + 1) 29 (Pfy_Reader_readWord_b18 G d h0 v0) (some (.inr b0)) 87 [some (.ref v0)] [] (yH b0 h0) := tq_exit J rfl rfl
theorem wfy_Reader_readWord_j71 {G : ai_G} {d : Nat} {h0 : ai_H} (hO : hOld G h0)    (s : yS) (v0 : Nat) (t0 : Nat) (t1 : Int64): Tj G (d + 1) 29 (Pfy_Reader_readWord_b18 G d h0 v0) (fy_Reader_readWord_j71 G s v0 t0 t1) 71 [some (.ref v0)] [.long t1, .ref t0] (yH s h0) := by
  unfold fy_Reader_readWord_j71
  refine ty_wJ dX9_readWord_71 rfl rfl rfl (fun s71 => ?_)
  refine tq_aload_n dX9_readWord_74 rfl ?_
  refine tq_dup dX9_readWord_75 rfl ?_
  refine ty_gI dX9_readWord_76 rfl rfl (fun x76 => ?_)
  refine tq_iconst (v := 1) dX9_readWord_79 (by decide) ?_
  refine tq_iadd dX9_readWord_80 ?_
  refine ty_wI dX9_readWord_81 rfl rfl rfl (fun s81 => ?_)
  refine tq_goto dX9_readWord_84 rfl ?_
  exact Bfy_Reader_readWord_b18 hO _ _ ()
theorem wfy_Reader_readWord_b18 {G : ai_G} {d : Nat} {h0 : ai_H} (hO : hOld G h0) (v0 : Nat) (q : yS) (J : Unit) : Tj G (d + 1) 29 (Pfy_Reader_readWord_b18 G d h0 v0) (fy_Reader_readWord_b18 G v0 q) 18 [some (.ref v0)] [] (yH q h0) := by
  unfold fy_Reader_readWord_b18
  refine tq_aload_n dX9_readWord_18 rfl ?_
  refine tq_aload_n dX9_readWord_19 rfl ?_
  refine ty_gI dX9_readWord_20 rfl rfl (fun x20 => ?_)
  refine ty_v1_i dX9_readWord_23 rfl rfl rfl (Nat.le_of_ble_eq_true rfl) (wfy_Reader_sign hO (d := d) _ _ _) (fun p23 => ?_)
  refine ty_s1_pi dX9_readWord_26 rfl rfl rfl (Nat.le_of_ble_eq_true rfl) (wfy_Reader_isLetter (d := d) _) (fun p26 => ?_)
  refine tq_if_eq dX9_readWord_29 rfl ?_ ?_
  · exact Efy_Reader_readWord_b18 hO _ _ ()
  · refine tq_aload_n dX9_readWord_32 rfl ?_
    refine tq_aload_n dX9_readWord_33 rfl ?_
    refine ty_gI dX9_readWord_34 rfl rfl (fun x34 => ?_)
    refine tq_aload_n dX9_readWord_37 rfl ?_
    refine ty_gI dX9_readWord_38 rfl rfl (fun x38 => ?_)
    refine tq_isub dX9_readWord_41 ?_
    refine tq_bipush (v := 8) dX9_readWord_42 (by decide) ?_
    refine tq_icmp_ge dX9_readWord_44 rfl ?_ ?_
    · refine tq_aload_n dX9_readWord_67 rfl ?_
      refine ty_gJ dX9_readWord_68 rfl rfl (fun x68 => ?_)
      exact wfy_Reader_readWord_j71 hO _ _ _ _
    · refine tq_aload_n dX9_readWord_47 rfl ?_
      refine ty_gJ dX9_readWord_48 rfl rfl (fun x48 => ?_)
      refine tq_bipush (v := 8) dX9_readWord_51 (by decide) ?_
      refine tq_lshl dX9_readWord_53 ?_
      refine tq_aload_n dX9_readWord_54 rfl ?_
      refine tq_aload_n dX9_readWord_55 rfl ?_
      refine ty_gI dX9_readWord_56 rfl rfl (fun x56 => ?_)
      refine ty_v1_i dX9_readWord_59 rfl rfl rfl (Nat.le_of_ble_eq_true rfl) (wfy_Reader_sign hO (d := d) _ _ _) (fun p59 => ?_)
      refine tq_i2l dX9_readWord_62 ?_
      refine tq_lor dX9_readWord_63 ?_
      refine tq_goto dX9_readWord_64 rfl ?_
      exact wfy_Reader_readWord_j71 hO _ _ _ _
theorem Sfy_Reader_readWord_b18 {G : ai_G} {d : Nat} {h0 : ai_H} (hO : hOld G h0) {α : Type} {P : α → Option ai_R → Prop} (v0 : Nat) (b0 : yS) (J : Unit) {r : yS → Option α} (kk : ∀ (q : yS) (J : Unit), Tj G (d + 1) 29 P (r q) 87 [some (.ref v0)] [] (yH q h0)) : Tj G (d + 1) 29 P ((lp (fy_Reader_readWord_b18 G v0) b0).bind r) 18 [some (.ref v0)] [] (yH b0 h0) := tq_lp1 (J := J) (fun q J => wfy_Reader_readWord_b18 hO v0 q J) rfl rfl kk
theorem wfy_Reader_readWord {G : ai_G} {d : Nat} {h0 : ai_H} (hO : hOld G h0) (s : yS) (v0 : Nat) : ∀ r, fy_Reader_readWord G s v0 = some r → (PyV h0) r (ai_call G (d + 2) 29 [.ref v0] (yH s h0)) := by
  refine tq_meth (P := (PyV h0)) (d := (d + 1)) (Nat.le_of_ble_eq_true rfl) ?_
  show Tj G (d + 1) 29 (PyV h0) (fy_Reader_readWord G s v0) 0 [some (.ref v0)] [] (yH s h0)
  unfold fy_Reader_readWord
  refine tq_aload_n dX9_readWord_0 rfl ?_
  refine tq_iconst (v := 1) dX9_readWord_1 (by decide) ?_
  refine ty_wI dX9_readWord_2 rfl rfl rfl (fun s2 => ?_)
  refine tq_aload_n dX9_readWord_5 rfl ?_
  refine tq_lconst (v := 0) dX9_readWord_6 (by decide) ?_
  refine ty_wJ dX9_readWord_7 rfl rfl rfl (fun s7 => ?_)
  refine tq_aload_n dX9_readWord_10 rfl ?_
  refine tq_aload_n dX9_readWord_11 rfl ?_
  refine ty_gI dX9_readWord_12 rfl rfl (fun x12 => ?_)
  refine ty_wI dX9_readWord_15 rfl rfl rfl (fun s15 => ?_)
  refine Sfy_Reader_readWord_b18 hO _ _ () (fun q18 J18 => ?_)
  refine tq_aload_n dX9_readWord_87 rfl ?_
  refine ty_gI dX9_readWord_88 rfl rfl (fun x88 => ?_)
  refine tq_aload_n dX9_readWord_91 rfl ?_
  refine ty_gI dX9_readWord_92 rfl rfl (fun x92 => ?_)
  refine tq_isub dX9_readWord_95 ?_
  refine tq_bipush (v := 8) dX9_readWord_96 (by decide) ?_
  refine tq_icmp_le dX9_readWord_98 rfl ?_ ?_
  · exact tq_return dX9_readWord_106 rfl rfl
  · refine tq_aload_n dX9_readWord_101 rfl ?_
    refine tq_iconst (v := 4) dX9_readWord_102 (by decide) ?_
    refine ty_wI dX9_readWord_103 rfl rfl rfl (fun s103 => ?_)
    exact tq_return dX9_readWord_106 rfl rfl
theorem wfy_Reader_isDigit {G : ai_G} {d : Nat} {h : ai_H} (v0 : Int32) : ∀ r, fy_Reader_isDigit v0 = some r → (Pi h) r (ai_call G (d + 1) 30 [.int v0] h) := by
  refine tq_meth (P := (Pi h)) (d := d) (Nat.le_of_ble_eq_true rfl) ?_
  show Tj G d 30 (Pi h) (fy_Reader_isDigit v0) 0 [some (.int v0)] [] h
  unfold fy_Reader_isDigit
  refine tq_iload_n dX9_isDigit_0 rfl ?_
  refine tq_bipush (v := 48) dX9_isDigit_1 (by decide) ?_
  refine tq_icmp_lt dX9_isDigit_3 rfl ?_ ?_
  · refine tq_iconst (v := 0) dX9_isDigit_16 (by decide) ?_
    exact tq_ireturn dX9_isDigit_17 (by decide) rfl
  · refine tq_iload_n dX9_isDigit_6 rfl ?_
    refine tq_bipush (v := 57) dX9_isDigit_7 (by decide) ?_
    refine tq_icmp_gt dX9_isDigit_9 rfl ?_ ?_
    · refine tq_iconst (v := 0) dX9_isDigit_16 (by decide) ?_
      exact tq_ireturn dX9_isDigit_17 (by decide) rfl
    · refine tq_iconst (v := 1) dX9_isDigit_12 (by decide) ?_
      refine tq_goto dX9_isDigit_13 rfl ?_
      exact tq_ireturn dX9_isDigit_17 (by decide) rfl
abbrev Pfy_Reader_readNumber_b18 (G : ai_G) (d : Nat) (h0 : ai_H) (v0 : Nat) : yS ⊕ yS → Option ai_R → Prop := Sum.elim (fun (q : yS) run => ∃ J : Unit, run = ai_run G (d + 1) 31 18 [some (.ref v0)] [] (yH q h0)) (fun (q : yS) run => ∃ J : Unit, run = ai_run G (d + 1) 31 88 [some (.ref v0)] [] (yH q h0))
theorem Bfy_Reader_readNumber_b18 {G : ai_G} {d : Nat} {h0 : ai_H} (hO : hOld G h0) (v0 : Nat) (b0 : yS) (J : Unit) : Tj G (d + 1) 31 (Pfy_Reader_readNumber_b18 G d h0 v0) (some (.inl b0)) 18 [some (.ref v0)] [] (yH b0 h0) := tq_back J rfl rfl
theorem Efy_Reader_readNumber_b18 {G : ai_G} {d : Nat} {h0 : ai_H} (hO : hOld G h0) (v0 : Nat) (b0 : yS) (J : Unit) : Tj G (d + 1) 31 (Pfy_Reader_readNumber_b18 G d h0 v0) (some (.inr b0)) 88 [some (.ref v0)] [] (yH b0 h0) := tq_exit J rfl rfl
theorem wfy_Reader_readNumber_j72 {G : ai_G} {d : Nat} {h0 : ai_H} (hO : hOld G h0)    (s : yS) (v0 : Nat) (t0 : Nat) (t1 : Int32): Tj G (d + 1) 31 (Pfy_Reader_readNumber_b18 G d h0 v0) (fy_Reader_readNumber_j72 G s v0 t0 t1) 72 [some (.ref v0)] [.int t1, .ref t0] (yH s h0) := by
  unfold fy_Reader_readNumber_j72
  refine ty_wI dX9_readNumber_72 rfl rfl rfl (fun s72 => ?_)
  refine tq_aload_n dX9_readNumber_75 rfl ?_
  refine tq_dup dX9_readNumber_76 rfl ?_
  refine ty_gI dX9_readNumber_77 rfl rfl (fun x77 => ?_)
  refine tq_iconst (v := 1) dX9_readNumber_80 (by decide) ?_
  refine tq_iadd dX9_readNumber_81 ?_
  refine ty_wI dX9_readNumber_82 rfl rfl rfl (fun s82 => ?_)
  refine tq_goto dX9_readNumber_85 rfl ?_
  exact Bfy_Reader_readNumber_b18 hO _ _ ()
theorem wfy_Reader_readNumber_b18 {G : ai_G} {d : Nat} {h0 : ai_H} (hO : hOld G h0) (v0 : Nat) (q : yS) (J : Unit) : Tj G (d + 1) 31 (Pfy_Reader_readNumber_b18 G d h0 v0) (fy_Reader_readNumber_b18 G v0 q) 18 [some (.ref v0)] [] (yH q h0) := by
  unfold fy_Reader_readNumber_b18
  refine tq_aload_n dX9_readNumber_18 rfl ?_
  refine tq_aload_n dX9_readNumber_19 rfl ?_
  refine ty_gI dX9_readNumber_20 rfl rfl (fun x20 => ?_)
  refine ty_v1_i dX9_readNumber_23 rfl rfl rfl (Nat.le_of_ble_eq_true rfl) (wfy_Reader_sign hO (d := d) _ _ _) (fun p23 => ?_)
  refine ty_s1_pi dX9_readNumber_26 rfl rfl rfl (Nat.le_of_ble_eq_true rfl) (wfy_Reader_isDigit (d := d) _) (fun p26 => ?_)
  refine tq_if_eq dX9_readNumber_29 rfl ?_ ?_
  · exact Efy_Reader_readNumber_b18 hO _ _ ()
  · refine tq_aload_n dX9_readNumber_32 rfl ?_
    refine tq_aload_n dX9_readNumber_33 rfl ?_
    refine ty_gI dX9_readNumber_34 rfl rfl (fun x34 => ?_)
    refine tq_aload_n dX9_readNumber_37 rfl ?_
    refine ty_gI dX9_readNumber_38 rfl rfl (fun x38 => ?_)
    refine tq_isub dX9_readNumber_41 ?_
    refine tq_iconst (v := 4) dX9_readNumber_42 (by decide) ?_
    refine tq_icmp_ge dX9_readNumber_43 rfl ?_ ?_
    · refine tq_aload_n dX9_readNumber_68 rfl ?_
      refine ty_gI dX9_readNumber_69 rfl rfl (fun x69 => ?_)
      exact wfy_Reader_readNumber_j72 hO _ _ _ _
    · refine tq_bipush (v := 10) dX9_readNumber_46 (by decide) ?_
      refine tq_aload_n dX9_readNumber_48 rfl ?_
      refine ty_gI dX9_readNumber_49 rfl rfl (fun x49 => ?_)
      refine tq_imul dX9_readNumber_52 ?_
      refine tq_aload_n dX9_readNumber_53 rfl ?_
      refine tq_aload_n dX9_readNumber_54 rfl ?_
      refine ty_gI dX9_readNumber_55 rfl rfl (fun x55 => ?_)
      refine ty_v1_i dX9_readNumber_58 rfl rfl rfl (Nat.le_of_ble_eq_true rfl) (wfy_Reader_sign hO (d := d) _ _ _) (fun p58 => ?_)
      refine tq_iadd dX9_readNumber_61 ?_
      refine tq_bipush (v := 48) dX9_readNumber_62 (by decide) ?_
      refine tq_isub dX9_readNumber_64 ?_
      refine tq_goto dX9_readNumber_65 rfl ?_
      exact wfy_Reader_readNumber_j72 hO _ _ _ _
theorem Sfy_Reader_readNumber_b18 {G : ai_G} {d : Nat} {h0 : ai_H} (hO : hOld G h0) {α : Type} {P : α → Option ai_R → Prop} (v0 : Nat) (b0 : yS) (J : Unit) {r : yS → Option α} (kk : ∀ (q : yS) (J : Unit), Tj G (d + 1) 31 P (r q) 88 [some (.ref v0)] [] (yH q h0)) : Tj G (d + 1) 31 P ((lp (fy_Reader_readNumber_b18 G v0) b0).bind r) 18 [some (.ref v0)] [] (yH b0 h0) := tq_lp1 (J := J) (fun q J => wfy_Reader_readNumber_b18 hO v0 q J) rfl rfl kk
theorem wfy_Reader_readNumber {G : ai_G} {d : Nat} {h0 : ai_H} (hO : hOld G h0) (s : yS) (v0 : Nat) : ∀ r, fy_Reader_readNumber G s v0 = some r → (PyV h0) r (ai_call G (d + 2) 31 [.ref v0] (yH s h0)) := by
  refine tq_meth (P := (PyV h0)) (d := (d + 1)) (Nat.le_of_ble_eq_true rfl) ?_
  show Tj G (d + 1) 31 (PyV h0) (fy_Reader_readNumber G s v0) 0 [some (.ref v0)] [] (yH s h0)
  unfold fy_Reader_readNumber
  refine tq_aload_n dX9_readNumber_0 rfl ?_
  refine tq_iconst (v := 2) dX9_readNumber_1 (by decide) ?_
  refine ty_wI dX9_readNumber_2 rfl rfl rfl (fun s2 => ?_)
  refine tq_aload_n dX9_readNumber_5 rfl ?_
  refine tq_iconst (v := 0) dX9_readNumber_6 (by decide) ?_
  refine ty_wI dX9_readNumber_7 rfl rfl rfl (fun s7 => ?_)
  refine tq_aload_n dX9_readNumber_10 rfl ?_
  refine tq_aload_n dX9_readNumber_11 rfl ?_
  refine ty_gI dX9_readNumber_12 rfl rfl (fun x12 => ?_)
  refine ty_wI dX9_readNumber_15 rfl rfl rfl (fun s15 => ?_)
  refine Sfy_Reader_readNumber_b18 hO _ _ () (fun q18 J18 => ?_)
  refine tq_aload_n dX9_readNumber_88 rfl ?_
  refine ty_gI dX9_readNumber_89 rfl rfl (fun x89 => ?_)
  refine tq_aload_n dX9_readNumber_92 rfl ?_
  refine ty_gI dX9_readNumber_93 rfl rfl (fun x93 => ?_)
  refine tq_isub dX9_readNumber_96 ?_
  refine tq_iconst (v := 4) dX9_readNumber_97 (by decide) ?_
  refine tq_icmp_gt dX9_readNumber_98 rfl ?_ ?_
  · refine tq_aload_n dX9_readNumber_115 rfl ?_
    refine tq_iconst (v := 4) dX9_readNumber_116 (by decide) ?_
    refine ty_wI dX9_readNumber_117 rfl rfl rfl (fun s117 => ?_)
    exact tq_return dX9_readNumber_120 rfl rfl
  · refine tq_aload_n dX9_readNumber_101 rfl ?_
    refine tq_aload_n dX9_readNumber_102 rfl ?_
    refine ty_gI dX9_readNumber_103 rfl rfl (fun x103 => ?_)
    refine ty_v1_i dX9_readNumber_106 rfl rfl rfl (Nat.le_of_ble_eq_true rfl) (wfy_Reader_sign hO (d := d) _ _ _) (fun p106 => ?_)
    refine ty_s1_pi dX9_readNumber_109 rfl rfl rfl (Nat.le_of_ble_eq_true rfl) (wfy_Reader_isLetter (d := d) _) (fun p109 => ?_)
    refine tq_if_eq dX9_readNumber_112 rfl ?_ ?_
    · exact tq_return dX9_readNumber_120 rfl rfl
    · refine tq_aload_n dX9_readNumber_115 rfl ?_
      refine tq_iconst (v := 4) dX9_readNumber_116 (by decide) ?_
      refine ty_wI dX9_readNumber_117 rfl rfl rfl (fun s117 => ?_)
      exact tq_return dX9_readNumber_120 rfl rfl
theorem wfy_Reader_isSign {G : ai_G} {d : Nat} {h : ai_H} (v0 : Int32) : ∀ r, fy_Reader_isSign v0 = some r → (Pi h) r (ai_call G (d + 1) 32 [.int v0] h) := by
  refine tq_meth (P := (Pi h)) (d := d) (Nat.le_of_ble_eq_true rfl) ?_
  show Tj G d 32 (Pi h) (fy_Reader_isSign v0) 0 [some (.int v0)] [] h
  unfold fy_Reader_isSign
  refine tq_iload_n dX9_isSign_0 rfl ?_
  refine tq_bipush (v := 59) dX9_isSign_1 (by decide) ?_
  refine tq_icmp_eq dX9_isSign_3 rfl ?_ ?_
  · refine tq_iconst (v := 1) dX9_isSign_66 (by decide) ?_
    refine tq_goto dX9_isSign_67 rfl ?_
    exact tq_ireturn dX9_isSign_71 (by decide) rfl
  · refine tq_iload_n dX9_isSign_6 rfl ?_
    refine tq_bipush (v := 40) dX9_isSign_7 (by decide) ?_
    refine tq_icmp_eq dX9_isSign_9 rfl ?_ ?_
    · refine tq_iconst (v := 1) dX9_isSign_66 (by decide) ?_
      refine tq_goto dX9_isSign_67 rfl ?_
      exact tq_ireturn dX9_isSign_71 (by decide) rfl
    · refine tq_iload_n dX9_isSign_12 rfl ?_
      refine tq_bipush (v := 41) dX9_isSign_13 (by decide) ?_
      refine tq_icmp_eq dX9_isSign_15 rfl ?_ ?_
      · refine tq_iconst (v := 1) dX9_isSign_66 (by decide) ?_
        refine tq_goto dX9_isSign_67 rfl ?_
        exact tq_ireturn dX9_isSign_71 (by decide) rfl
      · refine tq_iload_n dX9_isSign_18 rfl ?_
        refine tq_bipush (v := 60) dX9_isSign_19 (by decide) ?_
        refine tq_icmp_eq dX9_isSign_21 rfl ?_ ?_
        · refine tq_iconst (v := 1) dX9_isSign_66 (by decide) ?_
          refine tq_goto dX9_isSign_67 rfl ?_
          exact tq_ireturn dX9_isSign_71 (by decide) rfl
        · refine tq_iload_n dX9_isSign_24 rfl ?_
          refine tq_bipush (v := 62) dX9_isSign_25 (by decide) ?_
          refine tq_icmp_eq dX9_isSign_27 rfl ?_ ?_
          · refine tq_iconst (v := 1) dX9_isSign_66 (by decide) ?_
            refine tq_goto dX9_isSign_67 rfl ?_
            exact tq_ireturn dX9_isSign_71 (by decide) rfl
          · refine tq_iload_n dX9_isSign_30 rfl ?_
            refine tq_bipush (v := 61) dX9_isSign_31 (by decide) ?_
            refine tq_icmp_eq dX9_isSign_33 rfl ?_ ?_
            · refine tq_iconst (v := 1) dX9_isSign_66 (by decide) ?_
              refine tq_goto dX9_isSign_67 rfl ?_
              exact tq_ireturn dX9_isSign_71 (by decide) rfl
            · refine tq_iload_n dX9_isSign_36 rfl ?_
              refine tq_bipush (v := 43) dX9_isSign_37 (by decide) ?_
              refine tq_icmp_eq dX9_isSign_39 rfl ?_ ?_
              · refine tq_iconst (v := 1) dX9_isSign_66 (by decide) ?_
                refine tq_goto dX9_isSign_67 rfl ?_
                exact tq_ireturn dX9_isSign_71 (by decide) rfl
              · refine tq_iload_n dX9_isSign_42 rfl ?_
                refine tq_bipush (v := 45) dX9_isSign_43 (by decide) ?_
                refine tq_icmp_eq dX9_isSign_45 rfl ?_ ?_
                · refine tq_iconst (v := 1) dX9_isSign_66 (by decide) ?_
                  refine tq_goto dX9_isSign_67 rfl ?_
                  exact tq_ireturn dX9_isSign_71 (by decide) rfl
                · refine tq_iload_n dX9_isSign_48 rfl ?_
                  refine tq_bipush (v := 42) dX9_isSign_49 (by decide) ?_
                  refine tq_icmp_eq dX9_isSign_51 rfl ?_ ?_
                  · refine tq_iconst (v := 1) dX9_isSign_66 (by decide) ?_
                    refine tq_goto dX9_isSign_67 rfl ?_
                    exact tq_ireturn dX9_isSign_71 (by decide) rfl
                  · refine tq_iload_n dX9_isSign_54 rfl ?_
                    refine tq_bipush (v := 47) dX9_isSign_55 (by decide) ?_
                    refine tq_icmp_eq dX9_isSign_57 rfl ?_ ?_
                    · refine tq_iconst (v := 1) dX9_isSign_66 (by decide) ?_
                      refine tq_goto dX9_isSign_67 rfl ?_
                      exact tq_ireturn dX9_isSign_71 (by decide) rfl
                    · refine tq_iload_n dX9_isSign_60 rfl ?_
                      refine tq_bipush (v := 37) dX9_isSign_61 (by decide) ?_
                      refine tq_icmp_ne dX9_isSign_63 rfl ?_ ?_
                      · refine tq_iconst (v := 0) dX9_isSign_70 (by decide) ?_
                        exact tq_ireturn dX9_isSign_71 (by decide) rfl
                      · refine tq_iconst (v := 1) dX9_isSign_66 (by decide) ?_
                        refine tq_goto dX9_isSign_67 rfl ?_
                        exact tq_ireturn dX9_isSign_71 (by decide) rfl

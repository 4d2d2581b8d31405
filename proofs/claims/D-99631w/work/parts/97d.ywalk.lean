/-! WALKS of the component (printed by tools/decy.py) -/
set_option maxRecDepth 100000
abbrev Pfy_River_widthOf_b4 (G : ai_G) (d : Nat) (h0 : ai_H) (s : yS) (v0 : Nat) (v1 : Int32) : (Int32 × Int32) ⊕ Int32 → Option ai_R → Prop := Sum.elim (fun (q : Int32 × Int32) run => ∃ J : Unit, run = ai_run G (d + 3) 131 4 [some (.ref v0), some (.int v1), some (.int q.1), some (.int q.2)] [] (yH s h0)) (fun (q : Int32) run => ∃ J : JV × JV × JV, run = ai_run G (d + 3) 131 50 [J.1.1, J.2.1.1, some (.int q), J.2.2.1] [] (yH s h0))
theorem Bfy_River_widthOf_b4 {G : ai_G} {d : Nat} {h0 : ai_H} (hO : hOld G h0) (s : yS) (v0 : Nat) (v1 : Int32) (b0 : Int32) (b1 : Int32) (J : Unit) : Tj G (d + 3) 131 (Pfy_River_widthOf_b4 G d h0 s v0 v1) (some (.inl (b0, b1))) 4 [some (.ref v0), some (.int v1), some (.int b0), some (.int b1)] [] (yH s h0) := tq_back J rfl rfl
theorem Efy_River_widthOf_b4 {G : ai_G} {d : Nat} {h0 : ai_H} (hO : hOld G h0) (s : yS) (v0 : Nat) (v1 : Int32) (b0 : Int32) (J : JV × JV × JV) : Tj G (d + 3) 131 (Pfy_River_widthOf_b4 G d h0 s v0 v1) (some (.inr b0)) 50 [J.1.1, J.2.1.1, some (.int b0), J.2.2.1] [] (yH s h0) := tq_exit J rfl rfl
theorem wfy_River_widthOf_b4 {G : ai_G} {d : Nat} {h0 : ai_H} (hO : hOld G h0) (s : yS) (v0 : Nat) (v1 : Int32) (q : Int32 × Int32) (J : Unit) : Tj G (d + 3) 131 (Pfy_River_widthOf_b4 G d h0 s v0 v1) (fy_River_widthOf_b4 G s v0 v1 q) 4 [some (.ref v0), some (.int v1), some (.int q.1), some (.int q.2)] [] (yH s h0) := by
  unfold fy_River_widthOf_b4
  refine tq_iload_n dX1_widthOf_4 rfl ?_
  refine tq_aload_n dX1_widthOf_5 rfl ?_
  refine ty_gR dX1_widthOf_6 rfl rfl (fun x6 => ?_)
  refine ty_v0_i dX1_widthOf_9 rfl rfl rfl (Nat.le_of_ble_eq_true rfl) (wfy_List_size hO (d := d + 2) _ _) (fun p9 => ?_)
  refine tq_icmp_ge dX1_widthOf_12 rfl ?_ ?_
  · exact Efy_River_widthOf_b4 hO _ _ _ _ (⟨some (.ref v0), rfl⟩, ⟨some (.int v1), rfl⟩, ⟨some (.int q.2), rfl⟩)
  · refine tq_iload_n dX1_widthOf_15 rfl ?_
    refine tq_iload_n dX1_widthOf_16 rfl ?_
    refine tq_iload_n dX1_widthOf_17 rfl ?_
    refine ty_s2_pi dX1_widthOf_18 rfl rfl rfl (Nat.le_of_ble_eq_true rfl) (wfy_River_has (d := d + 2) _ _) (fun p18 => ?_)
    refine tq_if_eq dX1_widthOf_21 rfl ?_ ?_
    · refine tq_iconst (v := 0) dX1_widthOf_41 (by decide) ?_
      refine tq_iadd dX1_widthOf_42 ?_
      refine tq_istore_n (L' := [_, _, _, _]) dX1_widthOf_43 (Nat.le_of_ble_eq_true rfl) rfl ?_
      refine tq_iinc (v := (q.2 + 1)) (L' := [_, _, _, _]) dX1_widthOf_44 rfl (Nat.le_of_ble_eq_true rfl) rfl rfl ?_
      refine tq_goto dX1_widthOf_47 rfl ?_
      exact Bfy_River_widthOf_b4 hO _ _ _ _ _ ()
    · refine tq_aload_n dX1_widthOf_24 rfl ?_
      refine ty_gR dX1_widthOf_25 rfl rfl (fun x25 => ?_)
      refine tq_iload_n dX1_widthOf_28 rfl ?_
      refine ty_v1_r dX1_widthOf_29 rfl rfl rfl (Nat.le_of_ble_eq_true rfl) (wfy_List_get hO (d := d) _ _ _) (fun p29 => ?_)
      refine ty_cast dX1_widthOf_32 rfl (fun _ => ?_)
      refine ty_gI dX1_widthOf_35 rfl rfl (fun x35 => ?_)
      refine tq_goto dX1_widthOf_38 rfl ?_
      refine tq_iadd dX1_widthOf_42 ?_
      refine tq_istore_n (L' := [_, _, _, _]) dX1_widthOf_43 (Nat.le_of_ble_eq_true rfl) rfl ?_
      refine tq_iinc (v := (q.2 + 1)) (L' := [_, _, _, _]) dX1_widthOf_44 rfl (Nat.le_of_ble_eq_true rfl) rfl rfl ?_
      refine tq_goto dX1_widthOf_47 rfl ?_
      exact Bfy_River_widthOf_b4 hO _ _ _ _ _ ()
theorem Sfy_River_widthOf_b4 {G : ai_G} {d : Nat} {h0 : ai_H} (hO : hOld G h0) {α : Type} {P : α → Option ai_R → Prop} (s : yS) (v0 : Nat) (v1 : Int32) (b0 : Int32) (b1 : Int32) (J : Unit) {r : Int32 → Option α} (kk : ∀ (q : Int32) (J : JV × JV × JV), Tj G (d + 3) 131 P (r q) 50 [J.1.1, J.2.1.1, some (.int q), J.2.2.1] [] (yH s h0)) : Tj G (d + 3) 131 P ((lp (fy_River_widthOf_b4 G s v0 v1) (b0, b1)).bind r) 4 [some (.ref v0), some (.int v1), some (.int b0), some (.int b1)] [] (yH s h0) := tq_lp1 (J := J) (fun q J => wfy_River_widthOf_b4 hO s v0 v1 q J) rfl rfl kk
theorem wfy_River_widthOf {G : ai_G} {d : Nat} {h0 : ai_H} (hO : hOld G h0) (s : yS) (v0 : Nat) (v1 : Int32) : ∀ r, fy_River_widthOf G s v0 v1 = some r → (Pi (yH s h0)) r (ai_call G (d + 4) 131 [.ref v0, .int v1] (yH s h0)) := by
  refine tq_meth (P := (Pi (yH s h0))) (d := (d + 3)) (Nat.le_of_ble_eq_true rfl) ?_
  show Tj G (d + 3) 131 (Pi (yH s h0)) (fy_River_widthOf G s v0 v1) 0 [some (.ref v0), some (.int v1), none, none] [] (yH s h0)
  unfold fy_River_widthOf
  refine tq_iconst (v := 0) dX1_widthOf_0 (by decide) ?_
  refine tq_istore_n (L' := [_, _, _, _]) dX1_widthOf_1 (Nat.le_of_ble_eq_true rfl) rfl ?_
  refine tq_iconst (v := 0) dX1_widthOf_2 (by decide) ?_
  refine tq_istore_n (L' := [_, _, _, _]) dX1_widthOf_3 (Nat.le_of_ble_eq_true rfl) rfl ?_
  refine Sfy_River_widthOf_b4 hO _ _ _ _ _ () (fun q4 J4 => ?_)
  refine tq_iload_n dX1_widthOf_50 rfl ?_
  exact tq_ireturn dX1_widthOf_51 rfl rfl
theorem wfy_State_burden {G : ai_G} {d : Nat} {h0 : ai_H} (hO : hOld G h0) (s : yS) (v0 : Nat) (v1 : Nat) (v2 : Int32) : ∀ r, fy_State_burden G s v0 v1 v2 = some r → (Pi (yH s h0)) r (ai_call G (d + 5) 132 [.ref v0, .ref v1, .int v2] (yH s h0)) := by
  refine tq_meth (P := (Pi (yH s h0))) (d := (d + 4)) (Nat.le_of_ble_eq_true rfl) ?_
  show Tj G (d + 4) 132 (Pi (yH s h0)) (fy_State_burden G s v0 v1 v2) 0 [some (.ref v0), some (.ref v1), some (.int v2)] [] (yH s h0)
  unfold fy_State_burden
  refine tq_aload_n dX2_burden_0 rfl ?_
  refine tq_aload_n dX2_burden_1 rfl ?_
  refine tq_aload_n dX2_burden_2 rfl ?_
  refine tq_iload_n dX2_burden_3 rfl ?_
  refine ty_v2_i dX2_burden_4 rfl rfl rfl (Nat.le_of_ble_eq_true rfl) (wfy_State_loadsAt hO (d := d + 2) _ _ _ _) (fun p4 => ?_)
  refine ty_v1_i dX2_burden_7 rfl rfl rfl (Nat.le_of_ble_eq_true rfl) (wfy_River_widthOf hO (d := d) _ _ _) (fun p7 => ?_)
  exact tq_ireturn dX2_burden_10 rfl rfl
theorem wfy_B_board {G : ai_G} {d : Nat} {h0 : ai_H} (hO : hOld G h0) (s : yS) (v0 : Nat) (v1 : Int32) (v2 : Int32) : ∀ r, fy_B_board G s v0 v1 v2 = some r → (Pi (yH s h0)) r (ai_call G (d + 6) 133 [.ref v0, .int v1, .int v2] (yH s h0)) := by
  refine tq_meth (P := (Pi (yH s h0))) (d := (d + 5)) (Nat.le_of_ble_eq_true rfl) ?_
  show Tj G (d + 5) 133 (Pi (yH s h0)) (fy_B_board G s v0 v1 v2) 0 [some (.ref v0), some (.int v1), some (.int v2), none] [] (yH s h0)
  unfold fy_B_board
  refine tq_aload_n dX0_board_0 rfl ?_
  refine tq_iload_n dX0_board_1 rfl ?_
  refine ty_v1_i dX0_board_2 rfl rfl rfl (Nat.le_of_ble_eq_true rfl) (wfy_B_isBoard hO (d := d + 2) _ _ _) (fun p2 => ?_)
  refine tq_if_ne dX0_board_5 rfl ?_ ?_
  · refine tq_aload_n dX0_board_10 rfl ?_
    refine ty_gR dX0_board_11 rfl rfl (fun x11 => ?_)
    refine ty_gR dX0_board_14 rfl rfl (fun x14 => ?_)
    refine tq_iload_n dX0_board_17 rfl ?_
    refine ty_v1_r dX0_board_18 rfl rfl rfl (Nat.le_of_ble_eq_true rfl) (wfy_List_get hO (d := d + 2) _ _ _) (fun p18 => ?_)
    refine ty_cast dX0_board_21 rfl (fun _ => ?_)
    refine tq_astore_n (L' := [_, _, _, _]) dX0_board_24 (Nat.le_of_ble_eq_true rfl) rfl ?_
    refine tq_iload_n dX0_board_25 rfl ?_
    refine tq_case (fun c0 => ?_) (fun c0 => ?_)
    · rw [c0]
      refine tq_tsw (t := 76) dX0_board_26 (off := 50) (by decide) (by decide) ?_
      refine tq_aload_n dX0_board_76 rfl ?_
      refine ty_gR dX0_board_77 rfl rfl (fun x77 => ?_)
      refine ty_gR dX0_board_80 rfl rfl (fun x80 => ?_)
      refine tq_iload_n dX0_board_83 rfl ?_
      refine ty_iald dX0_board_84 (fun x84 => ?_)
      exact tq_ireturn dX0_board_85 rfl rfl
    refine tq_case (fun c1 => ?_) (fun c1 => ?_)
    · rw [c1]
      refine tq_tsw (t := 86) dX0_board_26 (off := 60) (by decide) (by decide) ?_
      refine tq_aload_n dX0_board_86 rfl ?_
      refine ty_gR dX0_board_87 rfl rfl (fun x87 => ?_)
      refine ty_gR dX0_board_90 rfl rfl (fun x90 => ?_)
      refine tq_iload_n dX0_board_93 rfl ?_
      refine ty_iald dX0_board_94 (fun x94 => ?_)
      exact tq_ireturn dX0_board_95 rfl rfl
    refine tq_case (fun c2 => ?_) (fun c2 => ?_)
    · rw [c2]
      refine tq_tsw (t := 96) dX0_board_26 (off := 70) (by decide) (by decide) ?_
      refine tq_aload_n dX0_board_96 rfl ?_
      refine ty_gR dX0_board_97 rfl rfl (fun x97 => ?_)
      refine ty_gR dX0_board_100 rfl rfl (fun x100 => ?_)
      refine tq_iload_n dX0_board_103 rfl ?_
      refine ty_iald dX0_board_104 (fun x104 => ?_)
      exact tq_ireturn dX0_board_105 rfl rfl
    refine tq_case (fun c3 => ?_) (fun c3 => ?_)
    · rw [c3]
      refine tq_tsw (t := 106) dX0_board_26 (off := 80) (by decide) (by decide) ?_
      refine tq_aload_n dX0_board_106 rfl ?_
      refine ty_gR dX0_board_107 rfl rfl (fun x107 => ?_)
      refine ty_gR dX0_board_110 rfl rfl (fun x110 => ?_)
      refine tq_iload_n dX0_board_113 rfl ?_
      refine ty_iald dX0_board_114 (fun x114 => ?_)
      exact tq_ireturn dX0_board_115 rfl rfl
    refine tq_case (fun c4 => ?_) (fun c4 => ?_)
    · rw [c4]
      refine tq_tsw (t := 116) dX0_board_26 (off := 90) (by decide) (by decide) ?_
      refine tq_aload_n dX0_board_116 rfl ?_
      refine ty_gR dX0_board_117 rfl rfl (fun x117 => ?_)
      refine ty_gR dX0_board_120 rfl rfl (fun x120 => ?_)
      refine tq_iload_n dX0_board_123 rfl ?_
      refine ty_iald dX0_board_124 (fun x124 => ?_)
      exact tq_ireturn dX0_board_125 rfl rfl
    refine tq_case (fun c5 => ?_) (fun c5 => ?_)
    · rw [c5]
      refine tq_tsw (t := 126) dX0_board_26 (off := 100) (by decide) (by decide) ?_
      refine tq_aload_n dX0_board_126 rfl ?_
      refine ty_gI dX0_board_127 rfl rfl (fun x127 => ?_)
      exact tq_ireturn dX0_board_130 rfl rfl
    refine tq_case (fun c6 => ?_) (fun c6 => ?_)
    · rw [c6]
      refine tq_tsw (t := 131) dX0_board_26 (off := 105) (by decide) (by decide) ?_
      refine tq_aload_n dX0_board_131 rfl ?_
      refine ty_gI dX0_board_132 rfl rfl (fun x132 => ?_)
      exact tq_ireturn dX0_board_135 rfl rfl
    refine tq_case (fun c7 => ?_) (fun c7 => ?_)
    · rw [c7]
      refine tq_tsw (t := 136) dX0_board_26 (off := 110) (by decide) (by decide) ?_
      refine tq_aload_n dX0_board_136 rfl ?_
      refine ty_gR dX0_board_137 rfl rfl (fun x137 => ?_)
      refine tq_aload_n dX0_board_140 rfl ?_
      refine ty_gR dX0_board_141 rfl rfl (fun x141 => ?_)
      refine tq_iload_n dX0_board_144 rfl ?_
      refine ty_v2_i dX0_board_145 rfl rfl rfl (Nat.le_of_ble_eq_true rfl) (wfy_State_burden hO (d := d) _ _ _ _) (fun p145 => ?_)
      exact tq_ireturn dX0_board_148 rfl rfl
    refine tq_case (fun c8 => ?_) (fun c8 => ?_)
    · rw [c8]
      refine tq_tsw (t := 149) dX0_board_26 (off := 123) (by decide) (by decide) ?_
      refine tq_aload_n dX0_board_149 rfl ?_
      refine ty_gR dX0_board_150 rfl rfl (fun x150 => ?_)
      refine tq_aload_n dX0_board_153 rfl ?_
      refine ty_gR dX0_board_154 rfl rfl (fun x154 => ?_)
      refine tq_iload_n dX0_board_157 rfl ?_
      refine ty_v2_i dX0_board_158 rfl rfl rfl (Nat.le_of_ble_eq_true rfl) (wfy_State_loadsAt hO (d := d + 3) _ _ _ _) (fun p158 => ?_)
      exact tq_ireturn dX0_board_161 rfl rfl
    refine tq_tsw (t := 162) dX0_board_26 (tsw_d (ks := [0, 1, 2, 3, 4, 5, 6, 7, 8]) (by decide) (by simp only [List.mem_cons, List.not_mem_nil, or_false]; rintro k (rfl | rfl | rfl | rfl | rfl | rfl | rfl | rfl | rfl) <;> assumption)) (by decide) ?_
    refine tq_iconst (v := (-1)) dX0_board_162 (by decide) ?_
    exact tq_ireturn dX0_board_163 rfl rfl
  · refine tq_iconst (v := (-1)) dX0_board_8 (by decide) ?_
    exact tq_ireturn dX0_board_9 rfl rfl
theorem wfy_B_loads {G : ai_G} {d : Nat} {h0 : ai_H} (hO : hOld G h0) (s : yS) (v0 : Nat) : ∀ r, fy_B_loads G s v0 = some r → (Pi (yH s h0)) r (ai_call G (d + 2) 141 [.ref v0] (yH s h0)) := by
  refine tq_meth (P := (Pi (yH s h0))) (d := (d + 1)) (Nat.le_of_ble_eq_true rfl) ?_
  show Tj G (d + 1) 141 (Pi (yH s h0)) (fy_B_loads G s v0) 0 [some (.ref v0)] [] (yH s h0)
  unfold fy_B_loads
  refine tq_aload_n dX0_loads_0 rfl ?_
  refine ty_gR dX0_loads_1 rfl rfl (fun x1 => ?_)
  refine ty_gR dX0_loads_4 rfl rfl (fun x4 => ?_)
  refine ty_v0_i dX0_loads_7 rfl rfl rfl (Nat.le_of_ble_eq_true rfl) (wfy_List_size hO (d := d) _ _) (fun p7 => ?_)
  exact tq_ireturn dX0_loads_10 rfl rfl
theorem wfy_B_isLoad {G : ai_G} {d : Nat} {h0 : ai_H} (hO : hOld G h0) (s : yS) (v0 : Nat) (v1 : Int32) : ∀ r, fy_B_isLoad G s v0 v1 = some r → (Pi (yH s h0)) r (ai_call G (d + 3) 142 [.ref v0, .int v1] (yH s h0)) := by
  refine tq_meth (P := (Pi (yH s h0))) (d := (d + 2)) (Nat.le_of_ble_eq_true rfl) ?_
  show Tj G (d + 2) 142 (Pi (yH s h0)) (fy_B_isLoad G s v0 v1) 0 [some (.ref v0), some (.int v1)] [] (yH s h0)
  unfold fy_B_isLoad
  refine tq_iload_n dX0_isLoad_0 rfl ?_
  refine tq_iconst (v := 0) dX0_isLoad_1 (by decide) ?_
  refine tq_aload_n dX0_isLoad_2 rfl ?_
  refine ty_v0_i dX0_isLoad_3 rfl rfl rfl (Nat.le_of_ble_eq_true rfl) (wfy_B_loads hO (d := d) _ _) (fun p3 => ?_)
  refine tq_iconst (v := 1) dX0_isLoad_6 (by decide) ?_
  refine tq_isub dX0_isLoad_7 ?_
  refine ty_s3_pi dX0_isLoad_8 rfl rfl rfl (Nat.le_of_ble_eq_true rfl) (wfy_B_isIn (d := d + 1) _ _ _) (fun p8 => ?_)
  exact tq_iretB dX0_isLoad_11 rfl rfl rfl
theorem wfy_B_load {G : ai_G} {d : Nat} {h0 : ai_H} (hO : hOld G h0) (s : yS) (v0 : Nat) (v1 : Int32) (v2 : Int32) : ∀ r, fy_B_load G s v0 v1 v2 = some r → (Pi (yH s h0)) r (ai_call G (d + 4) 143 [.ref v0, .int v1, .int v2] (yH s h0)) := by
  refine tq_meth (P := (Pi (yH s h0))) (d := (d + 3)) (Nat.le_of_ble_eq_true rfl) ?_
  show Tj G (d + 3) 143 (Pi (yH s h0)) (fy_B_load G s v0 v1 v2) 0 [some (.ref v0), some (.int v1), some (.int v2)] [] (yH s h0)
  unfold fy_B_load
  refine tq_aload_n dX0_load_0 rfl ?_
  refine tq_iload_n dX0_load_1 rfl ?_
  refine ty_v1_i dX0_load_2 rfl rfl rfl (Nat.le_of_ble_eq_true rfl) (wfy_B_isLoad hO (d := d) _ _ _) (fun p2 => ?_)
  refine tq_if_ne dX0_load_5 rfl ?_ ?_
  · refine tq_iload_n dX0_load_13 rfl ?_
    refine tq_if_ne dX0_load_14 rfl ?_ ?_
    · refine tq_iload_n dX0_load_37 rfl ?_
      refine tq_iconst (v := 1) dX0_load_38 (by decide) ?_
      refine tq_icmp_ne dX0_load_39 rfl ?_ ?_
      · refine tq_bipush (v := (-3)) dX0_load_54 (by decide) ?_
        exact tq_ireturn dX0_load_56 rfl rfl
      · refine tq_aload_n dX0_load_42 rfl ?_
        refine ty_gR dX0_load_43 rfl rfl (fun x43 => ?_)
        refine ty_gR dX0_load_46 rfl rfl (fun x46 => ?_)
        refine tq_iload_n dX0_load_49 rfl ?_
        refine ty_iald dX0_load_50 (fun x50 => ?_)
        refine tq_goto dX0_load_51 rfl ?_
        exact tq_ireturn dX0_load_56 rfl rfl
    · refine tq_aload_n dX0_load_17 rfl ?_
      refine ty_gR dX0_load_18 rfl rfl (fun x18 => ?_)
      refine ty_gR dX0_load_21 rfl rfl (fun x21 => ?_)
      refine tq_iload_n dX0_load_24 rfl ?_
      refine ty_v1_r dX0_load_25 rfl rfl rfl (Nat.le_of_ble_eq_true rfl) (wfy_List_get hO (d := d) _ _ _) (fun p25 => ?_)
      refine ty_cast dX0_load_28 rfl (fun _ => ?_)
      refine ty_gI dX0_load_31 rfl rfl (fun x31 => ?_)
      refine tq_goto dX0_load_34 rfl ?_
      exact tq_ireturn dX0_load_56 rfl rfl
  · refine tq_bipush (v := (-3)) dX0_load_8 (by decide) ?_
    refine tq_goto dX0_load_10 rfl ?_
    exact tq_ireturn dX0_load_56 rfl rfl
theorem wfy_B_spot {G : ai_G} {d : Nat} {h0 : ai_H} (hO : hOld G h0) (s : yS) (v0 : Nat) (v1 : Int32) (v2 : Int32) (v3 : Int32) : ∀ r, fy_B_spot G s v0 v1 v2 v3 = some r → (Pi (yH s h0)) r (ai_call G (d + 2) 146 [.ref v0, .int v1, .int v2, .int v3] (yH s h0)) := by
  refine tq_meth (P := (Pi (yH s h0))) (d := (d + 1)) (Nat.le_of_ble_eq_true rfl) ?_
  show Tj G (d + 1) 146 (Pi (yH s h0)) (fy_B_spot G s v0 v1 v2 v3) 0 [some (.ref v0), some (.int v1), some (.int v2), some (.int v3)] [] (yH s h0)
  unfold fy_B_spot
  refine tq_iload_n dX0_spot_0 rfl ?_
  refine tq_iconst (v := 0) dX0_spot_1 (by decide) ?_
  refine tq_aload_n dX0_spot_2 rfl ?_
  refine ty_gR dX0_spot_3 rfl rfl (fun x3 => ?_)
  refine ty_gI dX0_spot_6 rfl rfl (fun x6 => ?_)
  refine tq_iconst (v := 1) dX0_spot_9 (by decide) ?_
  refine tq_isub dX0_spot_10 ?_
  refine ty_s3_pi dX0_spot_11 rfl rfl rfl (Nat.le_of_ble_eq_true rfl) (wfy_B_isIn (d := d) _ _ _) (fun p11 => ?_)
  refine tq_if_eq dX0_spot_14 rfl ?_ ?_
  · refine tq_iconst (v := (-1)) dX0_spot_32 (by decide) ?_
    exact tq_ireturn dX0_spot_33 rfl rfl
  · refine tq_iload_n dX0_spot_17 rfl ?_
    refine tq_iconst (v := 0) dX0_spot_18 (by decide) ?_
    refine tq_aload_n dX0_spot_19 rfl ?_
    refine ty_gR dX0_spot_20 rfl rfl (fun x20 => ?_)
    refine ty_gI dX0_spot_23 rfl rfl (fun x23 => ?_)
    refine ty_s3_pi dX0_spot_26 rfl rfl rfl (Nat.le_of_ble_eq_true rfl) (wfy_B_isIn (d := d) _ _ _) (fun p26 => ?_)
    refine tq_if_ne dX0_spot_29 rfl ?_ ?_
    · refine tq_iload_n dX0_spot_34 rfl ?_
      refine tq_if_ne dX0_spot_35 rfl ?_ ?_
      · refine tq_iload_n dX0_spot_58 rfl ?_
        refine tq_iconst (v := 1) dX0_spot_59 (by decide) ?_
        refine tq_icmp_ne dX0_spot_60 rfl ?_ ?_
        · refine tq_iconst (v := (-1)) dX0_spot_91 (by decide) ?_
          exact tq_ireturn dX0_spot_92 rfl rfl
        · refine tq_aload_n dX0_spot_63 rfl ?_
          refine ty_gR dX0_spot_64 rfl rfl (fun x64 => ?_)
          refine ty_gR dX0_spot_67 rfl rfl (fun x67 => ?_)
          refine tq_aload_n dX0_spot_70 rfl ?_
          refine ty_gR dX0_spot_71 rfl rfl (fun x71 => ?_)
          refine tq_iload_n dX0_spot_74 rfl ?_
          refine tq_iload_n dX0_spot_75 rfl ?_
          refine ty_v2_i dX0_spot_76 rfl rfl rfl (Nat.le_of_ble_eq_true rfl) (wfy_River_cell hO (d := d) _ _ _ _) (fun p76 => ?_)
          refine ty_bald hO dX0_spot_79 (fun x79 => ?_)
          refine tq_if_eq dX0_spot_80 rfl ?_ ?_
          · refine tq_iconst (v := 0) dX0_spot_87 (by decide) ?_
            refine tq_goto dX0_spot_88 rfl ?_
            exact tq_ireturn dX0_spot_92 rfl rfl
          · refine tq_iconst (v := 1) dX0_spot_83 (by decide) ?_
            refine tq_goto dX0_spot_84 rfl ?_
            exact tq_ireturn dX0_spot_92 rfl rfl
      · refine tq_aload_n dX0_spot_38 rfl ?_
        refine ty_gR dX0_spot_39 rfl rfl (fun x39 => ?_)
        refine ty_gR dX0_spot_42 rfl rfl (fun x42 => ?_)
        refine tq_aload_n dX0_spot_45 rfl ?_
        refine ty_gR dX0_spot_46 rfl rfl (fun x46 => ?_)
        refine tq_iload_n dX0_spot_49 rfl ?_
        refine tq_iload_n dX0_spot_50 rfl ?_
        refine ty_v2_i dX0_spot_51 rfl rfl rfl (Nat.le_of_ble_eq_true rfl) (wfy_River_cell hO (d := d) _ _ _ _) (fun p51 => ?_)
        refine ty_iald dX0_spot_54 (fun x54 => ?_)
        refine tq_goto dX0_spot_55 rfl ?_
        exact tq_ireturn dX0_spot_92 rfl rfl
    · refine tq_iconst (v := (-1)) dX0_spot_32 (by decide) ?_
      exact tq_ireturn dX0_spot_33 rfl rfl
theorem wfy_Numeral_of {G : ai_G} {d : Nat} {h0 : ai_H} (hO : hOld G h0) (s : yS) (v0 : Nat) (v1 : Nat) : ∀ r, fy_Numeral_of G s v0 v1 = some r → (Pi (yH s h0)) r (ai_call G (d + 1) 150 [.ref v0, .ref v1] (yH s h0)) := by
  refine tq_meth (P := (Pi (yH s h0))) (d := d) (Nat.le_of_ble_eq_true rfl) ?_
  show Tj G d 150 (Pi (yH s h0)) (fy_Numeral_of G s v0 v1) 0 [some (.ref v0), some (.ref v1)] [] (yH s h0)
  unfold fy_Numeral_of
  refine tq_aload_n dX15_of_0 rfl ?_
  refine ty_gI dX15_of_1 rfl rfl (fun x1 => ?_)
  exact tq_ireturn dX15_of_4 rfl rfl
theorem wfy_Named_of {G : ai_G} {d : Nat} {h0 : ai_H} (hO : hOld G h0) (s : yS) (v0 : Nat) (v1 : Nat) : ∀ r, fy_Named_of G s v0 v1 = some r → (Pi (yH s h0)) r (ai_call G (d + 1) 151 [.ref v0, .ref v1] (yH s h0)) := by
  refine tq_meth (P := (Pi (yH s h0))) (d := d) (Nat.le_of_ble_eq_true rfl) ?_
  show Tj G d 151 (Pi (yH s h0)) (fy_Named_of G s v0 v1) 0 [some (.ref v0), some (.ref v1)] [] (yH s h0)
  unfold fy_Named_of
  refine tq_aload_n dX16_of_0 rfl ?_
  refine tq_aload_n dX16_of_1 rfl ?_
  refine ty_gI dX16_of_2 rfl rfl (fun x2 => ?_)
  refine ty_iald dX16_of_5 (fun x5 => ?_)
  exact tq_ireturn dX16_of_6 rfl rfl
theorem wfy_Two_is {G : ai_G} {d : Nat} {h : ai_H} (v0 : Int32) : ∀ r, fy_Two_is v0 = some r → (Pi h) r (ai_call G (d + 1) 152 [.int v0] h) := by
  refine tq_meth (P := (Pi h)) (d := d) (Nat.le_of_ble_eq_true rfl) ?_
  show Tj G d 152 (Pi h) (fy_Two_is v0) 0 [some (.int v0)] [] h
  unfold fy_Two_is
  refine tq_iload_n dX17_is_0 rfl ?_
  refine tq_if_eq dX17_is_1 rfl ?_ ?_
  · refine tq_iconst (v := 0) dX17_is_8 (by decide) ?_
    exact tq_ireturn dX17_is_9 rfl rfl
  · refine tq_iconst (v := 1) dX17_is_4 (by decide) ?_
    refine tq_goto dX17_is_5 rfl ?_
    exact tq_ireturn dX17_is_9 rfl rfl
theorem wfy_Two_of {G : ai_G} {d : Nat} {h0 : ai_H} (hO : hOld G h0) {fof : yS → Nat → Nat → Option Int32} (hof : ∀ (s : yS) (v0 v1 : Nat) r, fof s v0 v1 = some r → ofP G d h0 s v0 v1 r) (s : yS) (v0 : Nat) (v1 : Nat) : ∀ r, fy_Two_of G fof s v0 v1 = some r → (Pi (yH s h0)) r (ai_call G (d + 2) 153 [.ref v0, .ref v1] (yH s h0)) := by
  refine tq_meth (P := (Pi (yH s h0))) (d := (d + 1)) (Nat.le_of_ble_eq_true rfl) ?_
  show Tj G (d + 1) 153 (Pi (yH s h0)) (fy_Two_of G fof s v0 v1) 0 [some (.ref v0), some (.ref v1), none, none] [] (yH s h0)
  unfold fy_Two_of
  refine tq_aload_n dX17_of_0 rfl ?_
  refine ty_gR dX17_of_1 rfl rfl (fun x1 => ?_)
  refine tq_aload_n dX17_of_4 rfl ?_
  refine ty_of dX17_of_5 rfl rfl (Nat.le_of_ble_eq_true rfl) (fun c id h => by unfold ofid at h; split at h <;> first | (rename_i e; subst e; cases h; rfl) | (split at h <;> first | (rename_i e; subst e; cases h; rfl) | (split at h <;> first | (rename_i e; subst e; cases h; rfl) | (split at h <;> first | (rename_i e; subst e; cases h; rfl) | cases h)))) (fun b hb => hof_up (hof _ _ _ b hb) 1) (fun p5 => ?_)
  refine tq_istore_n (L' := [_, _, _, _]) dX17_of_8 (Nat.le_of_ble_eq_true rfl) rfl ?_
  refine tq_aload_n dX17_of_9 rfl ?_
  refine ty_gR dX17_of_10 rfl rfl (fun x10 => ?_)
  refine tq_aload_n dX17_of_13 rfl ?_
  refine ty_of dX17_of_14 rfl rfl (Nat.le_of_ble_eq_true rfl) (fun c id h => by unfold ofid at h; split at h <;> first | (rename_i e; subst e; cases h; rfl) | (split at h <;> first | (rename_i e; subst e; cases h; rfl) | (split at h <;> first | (rename_i e; subst e; cases h; rfl) | (split at h <;> first | (rename_i e; subst e; cases h; rfl) | cases h)))) (fun b hb => hof_up (hof _ _ _ b hb) 1) (fun p14 => ?_)
  refine tq_istore_n (L' := [_, _, _, _]) dX17_of_17 (Nat.le_of_ble_eq_true rfl) rfl ?_
  refine tq_aload_n dX17_of_18 rfl ?_
  refine ty_gI dX17_of_19 rfl rfl (fun x19 => ?_)
  refine tq_case (fun c37 => ?_) (fun c37 => ?_)
  · rw [c37]
    refine tq_tsw (t := 164) dX17_of_22 (off := 142) (by decide) (by decide) ?_
    refine tq_iload_n dX17_of_164 rfl ?_
    refine tq_if_ne dX17_of_165 rfl ?_ ?_
    · refine tq_iload_n dX17_of_172 rfl ?_
      refine tq_iload_n dX17_of_173 rfl ?_
      refine tq_irem dX17_of_174 (fun x174 => ?_)
      exact tq_ireturn dX17_of_175 rfl rfl
    · refine tq_iconst (v := 0) dX17_of_168 (by decide) ?_
      refine tq_goto dX17_of_169 rfl ?_
      exact tq_ireturn dX17_of_175 rfl rfl
  refine tq_case (fun c38 => ?_) (fun c38 => ?_)
  · rw [c38]
    refine tq_tsw (t := 218) dX17_of_22 (off := 196) (by decide) (by decide) ?_
    refine tq_iload_n dX17_of_218 rfl ?_
    refine tq_if_eq dX17_of_219 rfl ?_ ?_
    · refine tq_iconst (v := 0) dX17_of_230 (by decide) ?_
      refine ty_s1_pi dX17_of_231 rfl rfl rfl (Nat.le_of_ble_eq_true rfl) (wfy_Two_is (d := d) _) (fun p231 => ?_)
      exact tq_ireturn dX17_of_234 rfl rfl
    · refine tq_iload_n dX17_of_222 rfl ?_
      refine tq_if_eq dX17_of_223 rfl ?_ ?_
      · refine tq_iconst (v := 0) dX17_of_230 (by decide) ?_
        refine ty_s1_pi dX17_of_231 rfl rfl rfl (Nat.le_of_ble_eq_true rfl) (wfy_Two_is (d := d) _) (fun p231 => ?_)
        exact tq_ireturn dX17_of_234 rfl rfl
      · refine tq_iconst (v := 1) dX17_of_226 (by decide) ?_
        refine tq_goto dX17_of_227 rfl ?_
        refine ty_s1_pi dX17_of_231 rfl rfl rfl (Nat.le_of_ble_eq_true rfl) (wfy_Two_is (d := d) _) (fun p231 => ?_)
        exact tq_ireturn dX17_of_234 rfl rfl
  refine tq_case (fun c39 => ?_) (fun c39 => ?_)
  · rw [c39]
    refine tq_tsw (t := 235) dX17_of_22 (off := 213) (by decide) (by decide) ?_
    refine tq_iload_n dX17_of_235 rfl ?_
    refine tq_if_ne dX17_of_236 rfl ?_ ?_
    · refine tq_iconst (v := 1) dX17_of_243 (by decide) ?_
      refine tq_goto dX17_of_244 rfl ?_
      refine ty_s1_pi dX17_of_248 rfl rfl rfl (Nat.le_of_ble_eq_true rfl) (wfy_Two_is (d := d) _) (fun p248 => ?_)
      exact tq_ireturn dX17_of_251 rfl rfl
    · refine tq_iload_n dX17_of_239 rfl ?_
      refine tq_if_eq dX17_of_240 rfl ?_ ?_
      · refine tq_iconst (v := 0) dX17_of_247 (by decide) ?_
        refine ty_s1_pi dX17_of_248 rfl rfl rfl (Nat.le_of_ble_eq_true rfl) (wfy_Two_is (d := d) _) (fun p248 => ?_)
        exact tq_ireturn dX17_of_251 rfl rfl
      · refine tq_iconst (v := 1) dX17_of_243 (by decide) ?_
        refine tq_goto dX17_of_244 rfl ?_
        refine ty_s1_pi dX17_of_248 rfl rfl rfl (Nat.le_of_ble_eq_true rfl) (wfy_Two_is (d := d) _) (fun p248 => ?_)
        exact tq_ireturn dX17_of_251 rfl rfl
  refine tq_case (fun c40 => ?_) (fun c40 => ?_)
  · rw [c40]
    refine tq_tsw (t := 235) dX17_of_22 (off := 213) (by decide) (by decide) ?_
    refine tq_iload_n dX17_of_235 rfl ?_
    refine tq_if_ne dX17_of_236 rfl ?_ ?_
    · refine tq_iconst (v := 1) dX17_of_243 (by decide) ?_
      refine tq_goto dX17_of_244 rfl ?_
      refine ty_s1_pi dX17_of_248 rfl rfl rfl (Nat.le_of_ble_eq_true rfl) (wfy_Two_is (d := d) _) (fun p248 => ?_)
      exact tq_ireturn dX17_of_251 rfl rfl
    · refine tq_iload_n dX17_of_239 rfl ?_
      refine tq_if_eq dX17_of_240 rfl ?_ ?_
      · refine tq_iconst (v := 0) dX17_of_247 (by decide) ?_
        refine ty_s1_pi dX17_of_248 rfl rfl rfl (Nat.le_of_ble_eq_true rfl) (wfy_Two_is (d := d) _) (fun p248 => ?_)
        exact tq_ireturn dX17_of_251 rfl rfl
      · refine tq_iconst (v := 1) dX17_of_243 (by decide) ?_
        refine tq_goto dX17_of_244 rfl ?_
        refine ty_s1_pi dX17_of_248 rfl rfl rfl (Nat.le_of_ble_eq_true rfl) (wfy_Two_is (d := d) _) (fun p248 => ?_)
        exact tq_ireturn dX17_of_251 rfl rfl
  refine tq_case (fun c41 => ?_) (fun c41 => ?_)
  · rw [c41]
    refine tq_tsw (t := 235) dX17_of_22 (off := 213) (by decide) (by decide) ?_
    refine tq_iload_n dX17_of_235 rfl ?_
    refine tq_if_ne dX17_of_236 rfl ?_ ?_
    · refine tq_iconst (v := 1) dX17_of_243 (by decide) ?_
      refine tq_goto dX17_of_244 rfl ?_
      refine ty_s1_pi dX17_of_248 rfl rfl rfl (Nat.le_of_ble_eq_true rfl) (wfy_Two_is (d := d) _) (fun p248 => ?_)
      exact tq_ireturn dX17_of_251 rfl rfl
    · refine tq_iload_n dX17_of_239 rfl ?_
      refine tq_if_eq dX17_of_240 rfl ?_ ?_
      · refine tq_iconst (v := 0) dX17_of_247 (by decide) ?_
        refine ty_s1_pi dX17_of_248 rfl rfl rfl (Nat.le_of_ble_eq_true rfl) (wfy_Two_is (d := d) _) (fun p248 => ?_)
        exact tq_ireturn dX17_of_251 rfl rfl
      · refine tq_iconst (v := 1) dX17_of_243 (by decide) ?_
        refine tq_goto dX17_of_244 rfl ?_
        refine ty_s1_pi dX17_of_248 rfl rfl rfl (Nat.le_of_ble_eq_true rfl) (wfy_Two_is (d := d) _) (fun p248 => ?_)
        exact tq_ireturn dX17_of_251 rfl rfl
  refine tq_case (fun c42 => ?_) (fun c42 => ?_)
  · rw [c42]
    refine tq_tsw (t := 148) dX17_of_22 (off := 126) (by decide) (by decide) ?_
    refine tq_iload_n dX17_of_148 rfl ?_
    refine tq_iload_n dX17_of_149 rfl ?_
    refine tq_imul dX17_of_150 ?_
    exact tq_ireturn dX17_of_151 rfl rfl
  refine tq_case (fun c43 => ?_) (fun c43 => ?_)
  · rw [c43]
    refine tq_tsw (t := 140) dX17_of_22 (off := 118) (by decide) (by decide) ?_
    refine tq_iload_n dX17_of_140 rfl ?_
    refine tq_iload_n dX17_of_141 rfl ?_
    refine tq_iadd dX17_of_142 ?_
    exact tq_ireturn dX17_of_143 rfl rfl
  refine tq_case (fun c44 => ?_) (fun c44 => ?_)
  · rw [c44]
    refine tq_tsw (t := 235) dX17_of_22 (off := 213) (by decide) (by decide) ?_
    refine tq_iload_n dX17_of_235 rfl ?_
    refine tq_if_ne dX17_of_236 rfl ?_ ?_
    · refine tq_iconst (v := 1) dX17_of_243 (by decide) ?_
      refine tq_goto dX17_of_244 rfl ?_
      refine ty_s1_pi dX17_of_248 rfl rfl rfl (Nat.le_of_ble_eq_true rfl) (wfy_Two_is (d := d) _) (fun p248 => ?_)
      exact tq_ireturn dX17_of_251 rfl rfl
    · refine tq_iload_n dX17_of_239 rfl ?_
      refine tq_if_eq dX17_of_240 rfl ?_ ?_
      · refine tq_iconst (v := 0) dX17_of_247 (by decide) ?_
        refine ty_s1_pi dX17_of_248 rfl rfl rfl (Nat.le_of_ble_eq_true rfl) (wfy_Two_is (d := d) _) (fun p248 => ?_)
        exact tq_ireturn dX17_of_251 rfl rfl
      · refine tq_iconst (v := 1) dX17_of_243 (by decide) ?_
        refine tq_goto dX17_of_244 rfl ?_
        refine ty_s1_pi dX17_of_248 rfl rfl rfl (Nat.le_of_ble_eq_true rfl) (wfy_Two_is (d := d) _) (fun p248 => ?_)
        exact tq_ireturn dX17_of_251 rfl rfl
  refine tq_case (fun c45 => ?_) (fun c45 => ?_)
  · rw [c45]
    refine tq_tsw (t := 144) dX17_of_22 (off := 122) (by decide) (by decide) ?_
    refine tq_iload_n dX17_of_144 rfl ?_
    refine tq_iload_n dX17_of_145 rfl ?_
    refine tq_isub dX17_of_146 ?_
    exact tq_ireturn dX17_of_147 rfl rfl
  refine tq_case (fun c46 => ?_) (fun c46 => ?_)
  · rw [c46]
    refine tq_tsw (t := 235) dX17_of_22 (off := 213) (by decide) (by decide) ?_
    refine tq_iload_n dX17_of_235 rfl ?_
    refine tq_if_ne dX17_of_236 rfl ?_ ?_
    · refine tq_iconst (v := 1) dX17_of_243 (by decide) ?_
      refine tq_goto dX17_of_244 rfl ?_
      refine ty_s1_pi dX17_of_248 rfl rfl rfl (Nat.le_of_ble_eq_true rfl) (wfy_Two_is (d := d) _) (fun p248 => ?_)
      exact tq_ireturn dX17_of_251 rfl rfl
    · refine tq_iload_n dX17_of_239 rfl ?_
      refine tq_if_eq dX17_of_240 rfl ?_ ?_
      · refine tq_iconst (v := 0) dX17_of_247 (by decide) ?_
        refine ty_s1_pi dX17_of_248 rfl rfl rfl (Nat.le_of_ble_eq_true rfl) (wfy_Two_is (d := d) _) (fun p248 => ?_)
        exact tq_ireturn dX17_of_251 rfl rfl
      · refine tq_iconst (v := 1) dX17_of_243 (by decide) ?_
        refine tq_goto dX17_of_244 rfl ?_
        refine ty_s1_pi dX17_of_248 rfl rfl rfl (Nat.le_of_ble_eq_true rfl) (wfy_Two_is (d := d) _) (fun p248 => ?_)
        exact tq_ireturn dX17_of_251 rfl rfl
  refine tq_case (fun c47 => ?_) (fun c47 => ?_)
  · rw [c47]
    refine tq_tsw (t := 152) dX17_of_22 (off := 130) (by decide) (by decide) ?_
    refine tq_iload_n dX17_of_152 rfl ?_
    refine tq_if_ne dX17_of_153 rfl ?_ ?_
    · refine tq_iload_n dX17_of_160 rfl ?_
      refine tq_iload_n dX17_of_161 rfl ?_
      refine tq_idiv dX17_of_162 (fun x162 => ?_)
      exact tq_ireturn dX17_of_163 rfl rfl
    · refine tq_iconst (v := 0) dX17_of_156 (by decide) ?_
      refine tq_goto dX17_of_157 rfl ?_
      exact tq_ireturn dX17_of_163 rfl rfl
  refine tq_case (fun c48 => ?_) (fun c48 => ?_)
  · rw [c48]
    refine tq_tsw (t := 235) dX17_of_22 (off := 213) (by decide) (by decide) ?_
    refine tq_iload_n dX17_of_235 rfl ?_
    refine tq_if_ne dX17_of_236 rfl ?_ ?_
    · refine tq_iconst (v := 1) dX17_of_243 (by decide) ?_
      refine tq_goto dX17_of_244 rfl ?_
      refine ty_s1_pi dX17_of_248 rfl rfl rfl (Nat.le_of_ble_eq_true rfl) (wfy_Two_is (d := d) _) (fun p248 => ?_)
      exact tq_ireturn dX17_of_251 rfl rfl
    · refine tq_iload_n dX17_of_239 rfl ?_
      refine tq_if_eq dX17_of_240 rfl ?_ ?_
      · refine tq_iconst (v := 0) dX17_of_247 (by decide) ?_
        refine ty_s1_pi dX17_of_248 rfl rfl rfl (Nat.le_of_ble_eq_true rfl) (wfy_Two_is (d := d) _) (fun p248 => ?_)
        exact tq_ireturn dX17_of_251 rfl rfl
      · refine tq_iconst (v := 1) dX17_of_243 (by decide) ?_
        refine tq_goto dX17_of_244 rfl ?_
        refine ty_s1_pi dX17_of_248 rfl rfl rfl (Nat.le_of_ble_eq_true rfl) (wfy_Two_is (d := d) _) (fun p248 => ?_)
        exact tq_ireturn dX17_of_251 rfl rfl
  refine tq_case (fun c49 => ?_) (fun c49 => ?_)
  · rw [c49]
    refine tq_tsw (t := 235) dX17_of_22 (off := 213) (by decide) (by decide) ?_
    refine tq_iload_n dX17_of_235 rfl ?_
    refine tq_if_ne dX17_of_236 rfl ?_ ?_
    · refine tq_iconst (v := 1) dX17_of_243 (by decide) ?_
      refine tq_goto dX17_of_244 rfl ?_
      refine ty_s1_pi dX17_of_248 rfl rfl rfl (Nat.le_of_ble_eq_true rfl) (wfy_Two_is (d := d) _) (fun p248 => ?_)
      exact tq_ireturn dX17_of_251 rfl rfl
    · refine tq_iload_n dX17_of_239 rfl ?_
      refine tq_if_eq dX17_of_240 rfl ?_ ?_
      · refine tq_iconst (v := 0) dX17_of_247 (by decide) ?_
        refine ty_s1_pi dX17_of_248 rfl rfl rfl (Nat.le_of_ble_eq_true rfl) (wfy_Two_is (d := d) _) (fun p248 => ?_)
        exact tq_ireturn dX17_of_251 rfl rfl
      · refine tq_iconst (v := 1) dX17_of_243 (by decide) ?_
        refine tq_goto dX17_of_244 rfl ?_
        refine ty_s1_pi dX17_of_248 rfl rfl rfl (Nat.le_of_ble_eq_true rfl) (wfy_Two_is (d := d) _) (fun p248 => ?_)
        exact tq_ireturn dX17_of_251 rfl rfl
  refine tq_case (fun c50 => ?_) (fun c50 => ?_)
  · rw [c50]
    refine tq_tsw (t := 235) dX17_of_22 (off := 213) (by decide) (by decide) ?_
    refine tq_iload_n dX17_of_235 rfl ?_
    refine tq_if_ne dX17_of_236 rfl ?_ ?_
    · refine tq_iconst (v := 1) dX17_of_243 (by decide) ?_
      refine tq_goto dX17_of_244 rfl ?_
      refine ty_s1_pi dX17_of_248 rfl rfl rfl (Nat.le_of_ble_eq_true rfl) (wfy_Two_is (d := d) _) (fun p248 => ?_)
      exact tq_ireturn dX17_of_251 rfl rfl
    · refine tq_iload_n dX17_of_239 rfl ?_
      refine tq_if_eq dX17_of_240 rfl ?_ ?_
      · refine tq_iconst (v := 0) dX17_of_247 (by decide) ?_
        refine ty_s1_pi dX17_of_248 rfl rfl rfl (Nat.le_of_ble_eq_true rfl) (wfy_Two_is (d := d) _) (fun p248 => ?_)
        exact tq_ireturn dX17_of_251 rfl rfl
      · refine tq_iconst (v := 1) dX17_of_243 (by decide) ?_
        refine tq_goto dX17_of_244 rfl ?_
        refine ty_s1_pi dX17_of_248 rfl rfl rfl (Nat.le_of_ble_eq_true rfl) (wfy_Two_is (d := d) _) (fun p248 => ?_)
        exact tq_ireturn dX17_of_251 rfl rfl
  refine tq_case (fun c51 => ?_) (fun c51 => ?_)
  · rw [c51]
    refine tq_tsw (t := 235) dX17_of_22 (off := 213) (by decide) (by decide) ?_
    refine tq_iload_n dX17_of_235 rfl ?_
    refine tq_if_ne dX17_of_236 rfl ?_ ?_
    · refine tq_iconst (v := 1) dX17_of_243 (by decide) ?_
      refine tq_goto dX17_of_244 rfl ?_
      refine ty_s1_pi dX17_of_248 rfl rfl rfl (Nat.le_of_ble_eq_true rfl) (wfy_Two_is (d := d) _) (fun p248 => ?_)
      exact tq_ireturn dX17_of_251 rfl rfl
    · refine tq_iload_n dX17_of_239 rfl ?_
      refine tq_if_eq dX17_of_240 rfl ?_ ?_
      · refine tq_iconst (v := 0) dX17_of_247 (by decide) ?_
        refine ty_s1_pi dX17_of_248 rfl rfl rfl (Nat.le_of_ble_eq_true rfl) (wfy_Two_is (d := d) _) (fun p248 => ?_)
        exact tq_ireturn dX17_of_251 rfl rfl
      · refine tq_iconst (v := 1) dX17_of_243 (by decide) ?_
        refine tq_goto dX17_of_244 rfl ?_
        refine ty_s1_pi dX17_of_248 rfl rfl rfl (Nat.le_of_ble_eq_true rfl) (wfy_Two_is (d := d) _) (fun p248 => ?_)
        exact tq_ireturn dX17_of_251 rfl rfl
  refine tq_case (fun c52 => ?_) (fun c52 => ?_)
  · rw [c52]
    refine tq_tsw (t := 235) dX17_of_22 (off := 213) (by decide) (by decide) ?_
    refine tq_iload_n dX17_of_235 rfl ?_
    refine tq_if_ne dX17_of_236 rfl ?_ ?_
    · refine tq_iconst (v := 1) dX17_of_243 (by decide) ?_
      refine tq_goto dX17_of_244 rfl ?_
      refine ty_s1_pi dX17_of_248 rfl rfl rfl (Nat.le_of_ble_eq_true rfl) (wfy_Two_is (d := d) _) (fun p248 => ?_)
      exact tq_ireturn dX17_of_251 rfl rfl
    · refine tq_iload_n dX17_of_239 rfl ?_
      refine tq_if_eq dX17_of_240 rfl ?_ ?_
      · refine tq_iconst (v := 0) dX17_of_247 (by decide) ?_
        refine ty_s1_pi dX17_of_248 rfl rfl rfl (Nat.le_of_ble_eq_true rfl) (wfy_Two_is (d := d) _) (fun p248 => ?_)
        exact tq_ireturn dX17_of_251 rfl rfl
      · refine tq_iconst (v := 1) dX17_of_243 (by decide) ?_
        refine tq_goto dX17_of_244 rfl ?_
        refine ty_s1_pi dX17_of_248 rfl rfl rfl (Nat.le_of_ble_eq_true rfl) (wfy_Two_is (d := d) _) (fun p248 => ?_)
        exact tq_ireturn dX17_of_251 rfl rfl
  refine tq_case (fun c53 => ?_) (fun c53 => ?_)
  · rw [c53]
    refine tq_tsw (t := 235) dX17_of_22 (off := 213) (by decide) (by decide) ?_
    refine tq_iload_n dX17_of_235 rfl ?_
    refine tq_if_ne dX17_of_236 rfl ?_ ?_
    · refine tq_iconst (v := 1) dX17_of_243 (by decide) ?_
      refine tq_goto dX17_of_244 rfl ?_
      refine ty_s1_pi dX17_of_248 rfl rfl rfl (Nat.le_of_ble_eq_true rfl) (wfy_Two_is (d := d) _) (fun p248 => ?_)
      exact tq_ireturn dX17_of_251 rfl rfl
    · refine tq_iload_n dX17_of_239 rfl ?_
      refine tq_if_eq dX17_of_240 rfl ?_ ?_
      · refine tq_iconst (v := 0) dX17_of_247 (by decide) ?_
        refine ty_s1_pi dX17_of_248 rfl rfl rfl (Nat.le_of_ble_eq_true rfl) (wfy_Two_is (d := d) _) (fun p248 => ?_)
        exact tq_ireturn dX17_of_251 rfl rfl
      · refine tq_iconst (v := 1) dX17_of_243 (by decide) ?_
        refine tq_goto dX17_of_244 rfl ?_
        refine ty_s1_pi dX17_of_248 rfl rfl rfl (Nat.le_of_ble_eq_true rfl) (wfy_Two_is (d := d) _) (fun p248 => ?_)
        exact tq_ireturn dX17_of_251 rfl rfl
  refine tq_case (fun c54 => ?_) (fun c54 => ?_)
  · rw [c54]
    refine tq_tsw (t := 235) dX17_of_22 (off := 213) (by decide) (by decide) ?_
    refine tq_iload_n dX17_of_235 rfl ?_
    refine tq_if_ne dX17_of_236 rfl ?_ ?_
    · refine tq_iconst (v := 1) dX17_of_243 (by decide) ?_
      refine tq_goto dX17_of_244 rfl ?_
      refine ty_s1_pi dX17_of_248 rfl rfl rfl (Nat.le_of_ble_eq_true rfl) (wfy_Two_is (d := d) _) (fun p248 => ?_)
      exact tq_ireturn dX17_of_251 rfl rfl
    · refine tq_iload_n dX17_of_239 rfl ?_
      refine tq_if_eq dX17_of_240 rfl ?_ ?_
      · refine tq_iconst (v := 0) dX17_of_247 (by decide) ?_
        refine ty_s1_pi dX17_of_248 rfl rfl rfl (Nat.le_of_ble_eq_true rfl) (wfy_Two_is (d := d) _) (fun p248 => ?_)
        exact tq_ireturn dX17_of_251 rfl rfl
      · refine tq_iconst (v := 1) dX17_of_243 (by decide) ?_
        refine tq_goto dX17_of_244 rfl ?_
        refine ty_s1_pi dX17_of_248 rfl rfl rfl (Nat.le_of_ble_eq_true rfl) (wfy_Two_is (d := d) _) (fun p248 => ?_)
        exact tq_ireturn dX17_of_251 rfl rfl
  refine tq_case (fun c55 => ?_) (fun c55 => ?_)
  · rw [c55]
    refine tq_tsw (t := 235) dX17_of_22 (off := 213) (by decide) (by decide) ?_
    refine tq_iload_n dX17_of_235 rfl ?_
    refine tq_if_ne dX17_of_236 rfl ?_ ?_
    · refine tq_iconst (v := 1) dX17_of_243 (by decide) ?_
      refine tq_goto dX17_of_244 rfl ?_
      refine ty_s1_pi dX17_of_248 rfl rfl rfl (Nat.le_of_ble_eq_true rfl) (wfy_Two_is (d := d) _) (fun p248 => ?_)
      exact tq_ireturn dX17_of_251 rfl rfl
    · refine tq_iload_n dX17_of_239 rfl ?_
      refine tq_if_eq dX17_of_240 rfl ?_ ?_
      · refine tq_iconst (v := 0) dX17_of_247 (by decide) ?_
        refine ty_s1_pi dX17_of_248 rfl rfl rfl (Nat.le_of_ble_eq_true rfl) (wfy_Two_is (d := d) _) (fun p248 => ?_)
        exact tq_ireturn dX17_of_251 rfl rfl
      · refine tq_iconst (v := 1) dX17_of_243 (by decide) ?_
        refine tq_goto dX17_of_244 rfl ?_
        refine ty_s1_pi dX17_of_248 rfl rfl rfl (Nat.le_of_ble_eq_true rfl) (wfy_Two_is (d := d) _) (fun p248 => ?_)
        exact tq_ireturn dX17_of_251 rfl rfl
  refine tq_case (fun c56 => ?_) (fun c56 => ?_)
  · rw [c56]
    refine tq_tsw (t := 235) dX17_of_22 (off := 213) (by decide) (by decide) ?_
    refine tq_iload_n dX17_of_235 rfl ?_
    refine tq_if_ne dX17_of_236 rfl ?_ ?_
    · refine tq_iconst (v := 1) dX17_of_243 (by decide) ?_
      refine tq_goto dX17_of_244 rfl ?_
      refine ty_s1_pi dX17_of_248 rfl rfl rfl (Nat.le_of_ble_eq_true rfl) (wfy_Two_is (d := d) _) (fun p248 => ?_)
      exact tq_ireturn dX17_of_251 rfl rfl
    · refine tq_iload_n dX17_of_239 rfl ?_
      refine tq_if_eq dX17_of_240 rfl ?_ ?_
      · refine tq_iconst (v := 0) dX17_of_247 (by decide) ?_
        refine ty_s1_pi dX17_of_248 rfl rfl rfl (Nat.le_of_ble_eq_true rfl) (wfy_Two_is (d := d) _) (fun p248 => ?_)
        exact tq_ireturn dX17_of_251 rfl rfl
      · refine tq_iconst (v := 1) dX17_of_243 (by decide) ?_
        refine tq_goto dX17_of_244 rfl ?_
        refine ty_s1_pi dX17_of_248 rfl rfl rfl (Nat.le_of_ble_eq_true rfl) (wfy_Two_is (d := d) _) (fun p248 => ?_)
        exact tq_ireturn dX17_of_251 rfl rfl
  refine tq_case (fun c57 => ?_) (fun c57 => ?_)
  · rw [c57]
    refine tq_tsw (t := 235) dX17_of_22 (off := 213) (by decide) (by decide) ?_
    refine tq_iload_n dX17_of_235 rfl ?_
    refine tq_if_ne dX17_of_236 rfl ?_ ?_
    · refine tq_iconst (v := 1) dX17_of_243 (by decide) ?_
      refine tq_goto dX17_of_244 rfl ?_
      refine ty_s1_pi dX17_of_248 rfl rfl rfl (Nat.le_of_ble_eq_true rfl) (wfy_Two_is (d := d) _) (fun p248 => ?_)
      exact tq_ireturn dX17_of_251 rfl rfl
    · refine tq_iload_n dX17_of_239 rfl ?_
      refine tq_if_eq dX17_of_240 rfl ?_ ?_
      · refine tq_iconst (v := 0) dX17_of_247 (by decide) ?_
        refine ty_s1_pi dX17_of_248 rfl rfl rfl (Nat.le_of_ble_eq_true rfl) (wfy_Two_is (d := d) _) (fun p248 => ?_)
        exact tq_ireturn dX17_of_251 rfl rfl
      · refine tq_iconst (v := 1) dX17_of_243 (by decide) ?_
        refine tq_goto dX17_of_244 rfl ?_
        refine ty_s1_pi dX17_of_248 rfl rfl rfl (Nat.le_of_ble_eq_true rfl) (wfy_Two_is (d := d) _) (fun p248 => ?_)
        exact tq_ireturn dX17_of_251 rfl rfl
  refine tq_case (fun c58 => ?_) (fun c58 => ?_)
  · rw [c58]
    refine tq_tsw (t := 235) dX17_of_22 (off := 213) (by decide) (by decide) ?_
    refine tq_iload_n dX17_of_235 rfl ?_
    refine tq_if_ne dX17_of_236 rfl ?_ ?_
    · refine tq_iconst (v := 1) dX17_of_243 (by decide) ?_
      refine tq_goto dX17_of_244 rfl ?_
      refine ty_s1_pi dX17_of_248 rfl rfl rfl (Nat.le_of_ble_eq_true rfl) (wfy_Two_is (d := d) _) (fun p248 => ?_)
      exact tq_ireturn dX17_of_251 rfl rfl
    · refine tq_iload_n dX17_of_239 rfl ?_
      refine tq_if_eq dX17_of_240 rfl ?_ ?_
      · refine tq_iconst (v := 0) dX17_of_247 (by decide) ?_
        refine ty_s1_pi dX17_of_248 rfl rfl rfl (Nat.le_of_ble_eq_true rfl) (wfy_Two_is (d := d) _) (fun p248 => ?_)
        exact tq_ireturn dX17_of_251 rfl rfl
      · refine tq_iconst (v := 1) dX17_of_243 (by decide) ?_
        refine tq_goto dX17_of_244 rfl ?_
        refine ty_s1_pi dX17_of_248 rfl rfl rfl (Nat.le_of_ble_eq_true rfl) (wfy_Two_is (d := d) _) (fun p248 => ?_)
        exact tq_ireturn dX17_of_251 rfl rfl
  refine tq_case (fun c59 => ?_) (fun c59 => ?_)
  · rw [c59]
    refine tq_tsw (t := 235) dX17_of_22 (off := 213) (by decide) (by decide) ?_
    refine tq_iload_n dX17_of_235 rfl ?_
    refine tq_if_ne dX17_of_236 rfl ?_ ?_
    · refine tq_iconst (v := 1) dX17_of_243 (by decide) ?_
      refine tq_goto dX17_of_244 rfl ?_
      refine ty_s1_pi dX17_of_248 rfl rfl rfl (Nat.le_of_ble_eq_true rfl) (wfy_Two_is (d := d) _) (fun p248 => ?_)
      exact tq_ireturn dX17_of_251 rfl rfl
    · refine tq_iload_n dX17_of_239 rfl ?_
      refine tq_if_eq dX17_of_240 rfl ?_ ?_
      · refine tq_iconst (v := 0) dX17_of_247 (by decide) ?_
        refine ty_s1_pi dX17_of_248 rfl rfl rfl (Nat.le_of_ble_eq_true rfl) (wfy_Two_is (d := d) _) (fun p248 => ?_)
        exact tq_ireturn dX17_of_251 rfl rfl
      · refine tq_iconst (v := 1) dX17_of_243 (by decide) ?_
        refine tq_goto dX17_of_244 rfl ?_
        refine ty_s1_pi dX17_of_248 rfl rfl rfl (Nat.le_of_ble_eq_true rfl) (wfy_Two_is (d := d) _) (fun p248 => ?_)
        exact tq_ireturn dX17_of_251 rfl rfl
  refine tq_case (fun c60 => ?_) (fun c60 => ?_)
  · rw [c60]
    refine tq_tsw (t := 176) dX17_of_22 (off := 154) (by decide) (by decide) ?_
    refine tq_iload_n dX17_of_176 rfl ?_
    refine tq_iload_n dX17_of_177 rfl ?_
    refine tq_icmp_ge dX17_of_178 rfl ?_ ?_
    · refine tq_iconst (v := 0) dX17_of_185 (by decide) ?_
      refine ty_s1_pi dX17_of_186 rfl rfl rfl (Nat.le_of_ble_eq_true rfl) (wfy_Two_is (d := d) _) (fun p186 => ?_)
      exact tq_ireturn dX17_of_189 rfl rfl
    · refine tq_iconst (v := 1) dX17_of_181 (by decide) ?_
      refine tq_goto dX17_of_182 rfl ?_
      refine ty_s1_pi dX17_of_186 rfl rfl rfl (Nat.le_of_ble_eq_true rfl) (wfy_Two_is (d := d) _) (fun p186 => ?_)
      exact tq_ireturn dX17_of_189 rfl rfl
  refine tq_case (fun c61 => ?_) (fun c61 => ?_)
  · rw [c61]
    refine tq_tsw (t := 204) dX17_of_22 (off := 182) (by decide) (by decide) ?_
    refine tq_iload_n dX17_of_204 rfl ?_
    refine tq_iload_n dX17_of_205 rfl ?_
    refine tq_icmp_ne dX17_of_206 rfl ?_ ?_
    · refine tq_iconst (v := 0) dX17_of_213 (by decide) ?_
      refine ty_s1_pi dX17_of_214 rfl rfl rfl (Nat.le_of_ble_eq_true rfl) (wfy_Two_is (d := d) _) (fun p214 => ?_)
      exact tq_ireturn dX17_of_217 rfl rfl
    · refine tq_iconst (v := 1) dX17_of_209 (by decide) ?_
      refine tq_goto dX17_of_210 rfl ?_
      refine ty_s1_pi dX17_of_214 rfl rfl rfl (Nat.le_of_ble_eq_true rfl) (wfy_Two_is (d := d) _) (fun p214 => ?_)
      exact tq_ireturn dX17_of_217 rfl rfl
  refine tq_case (fun c62 => ?_) (fun c62 => ?_)
  · rw [c62]
    refine tq_tsw (t := 190) dX17_of_22 (off := 168) (by decide) (by decide) ?_
    refine tq_iload_n dX17_of_190 rfl ?_
    refine tq_iload_n dX17_of_191 rfl ?_
    refine tq_icmp_le dX17_of_192 rfl ?_ ?_
    · refine tq_iconst (v := 0) dX17_of_199 (by decide) ?_
      refine ty_s1_pi dX17_of_200 rfl rfl rfl (Nat.le_of_ble_eq_true rfl) (wfy_Two_is (d := d) _) (fun p200 => ?_)
      exact tq_ireturn dX17_of_203 rfl rfl
    · refine tq_iconst (v := 1) dX17_of_195 (by decide) ?_
      refine tq_goto dX17_of_196 rfl ?_
      refine ty_s1_pi dX17_of_200 rfl rfl rfl (Nat.le_of_ble_eq_true rfl) (wfy_Two_is (d := d) _) (fun p200 => ?_)
      exact tq_ireturn dX17_of_203 rfl rfl
  refine tq_tsw (t := 235) dX17_of_22 (tsw_d (ks := [37, 38, 39, 40, 41, 42, 43, 44, 45, 46, 47, 48, 49, 50, 51, 52, 53, 54, 55, 56, 57, 58, 59, 60, 61, 62]) (by decide) (by simp only [List.mem_cons, List.not_mem_nil, or_false]; rintro k (rfl | rfl | rfl | rfl | rfl | rfl | rfl | rfl | rfl | rfl | rfl | rfl | rfl | rfl | rfl | rfl | rfl | rfl | rfl | rfl | rfl | rfl | rfl | rfl | rfl | rfl) <;> assumption)) (by decide) ?_
  refine tq_iload_n dX17_of_235 rfl ?_
  refine tq_if_ne dX17_of_236 rfl ?_ ?_
  · refine tq_iconst (v := 1) dX17_of_243 (by decide) ?_
    refine tq_goto dX17_of_244 rfl ?_
    refine ty_s1_pi dX17_of_248 rfl rfl rfl (Nat.le_of_ble_eq_true rfl) (wfy_Two_is (d := d) _) (fun p248 => ?_)
    exact tq_ireturn dX17_of_251 rfl rfl
  · refine tq_iload_n dX17_of_239 rfl ?_
    refine tq_if_eq dX17_of_240 rfl ?_ ?_
    · refine tq_iconst (v := 0) dX17_of_247 (by decide) ?_
      refine ty_s1_pi dX17_of_248 rfl rfl rfl (Nat.le_of_ble_eq_true rfl) (wfy_Two_is (d := d) _) (fun p248 => ?_)
      exact tq_ireturn dX17_of_251 rfl rfl
    · refine tq_iconst (v := 1) dX17_of_243 (by decide) ?_
      refine tq_goto dX17_of_244 rfl ?_
      refine ty_s1_pi dX17_of_248 rfl rfl rfl (Nat.le_of_ble_eq_true rfl) (wfy_Two_is (d := d) _) (fun p248 => ?_)
      exact tq_ireturn dX17_of_251 rfl rfl
theorem wfy_Not_of {G : ai_G} {d : Nat} {h0 : ai_H} (hO : hOld G h0) {fof : yS → Nat → Nat → Option Int32} (hof : ∀ (s : yS) (v0 v1 : Nat) r, fof s v0 v1 = some r → ofP G d h0 s v0 v1 r) (s : yS) (v0 : Nat) (v1 : Nat) : ∀ r, fy_Not_of G fof s v0 v1 = some r → (Pi (yH s h0)) r (ai_call G (d + 1) 154 [.ref v0, .ref v1] (yH s h0)) := by
  refine tq_meth (P := (Pi (yH s h0))) (d := d) (Nat.le_of_ble_eq_true rfl) ?_
  show Tj G d 154 (Pi (yH s h0)) (fy_Not_of G fof s v0 v1) 0 [some (.ref v0), some (.ref v1)] [] (yH s h0)
  unfold fy_Not_of
  refine tq_aload_n dX14_of_0 rfl ?_
  refine ty_gR dX14_of_1 rfl rfl (fun x1 => ?_)
  refine tq_aload_n dX14_of_4 rfl ?_
  refine ty_of dX14_of_5 rfl rfl (Nat.le_of_ble_eq_true rfl) (fun c id h => by unfold ofid at h; split at h <;> first | (rename_i e; subst e; cases h; rfl) | (split at h <;> first | (rename_i e; subst e; cases h; rfl) | (split at h <;> first | (rename_i e; subst e; cases h; rfl) | (split at h <;> first | (rename_i e; subst e; cases h; rfl) | cases h)))) (fun b hb => hof_up (hof _ _ _ b hb) 0) (fun p5 => ?_)
  refine tq_if_ne dX14_of_8 rfl ?_ ?_
  · refine tq_iconst (v := 0) dX14_of_15 (by decide) ?_
    exact tq_ireturn dX14_of_16 rfl rfl
  · refine tq_iconst (v := 1) dX14_of_11 (by decide) ?_
    refine tq_goto dX14_of_12 rfl ?_
    exact tq_ireturn dX14_of_16 rfl rfl
theorem wfy_of {G : ai_G} {d : Nat} {h0 : ai_H} (hO : hOld G h0) (n : Nat) : ∀ (s : yS) (a t : Nat) b, fy_of G n s a t = some b → ofP G (d + 2 * n) h0 s a t b := by
  induction n with
  | zero => intro s a t b h1; cases h1
  | succ n ih =>
    intro s a t b hb
    obtain ⟨c, hc, hb⟩ := Option.bind_eq_some_iff.mp (show ((cl s a).bind fun c => if c = 11 then fy_Not_of G (fy_of G n) s a t else if c = 12 then fy_Numeral_of G s a t else if c = 13 then fy_Named_of G s a t else if c = 14 then fy_Two_of G (fy_of G n) s a t else none) = some b from hb)
    split at hb
    · rename_i e; subst e; exact ⟨_, _, cl_t hc, rfl, acm (wfy_Not_of hO (d := d + 2 * n) ih s a t b hb) 1⟩
    · split at hb
      · rename_i e; subst e; exact ⟨_, _, cl_t hc, rfl, acm (wfy_Numeral_of hO (d := d + 2 * n) s a t b hb) 1⟩
      · split at hb
        · rename_i e; subst e; exact ⟨_, _, cl_t hc, rfl, acm (wfy_Named_of hO (d := d + 2 * n) s a t b hb) 1⟩
        · split at hb
          · rename_i e; subst e; exact ⟨_, _, cl_t hc, rfl, acm (wfy_Two_of hO (d := d + 2 * n) ih s a t b hb) 0⟩
          · cases hb
theorem wfy_B_within {G : ai_G} {d : Nat} {h : ai_H} (v0 : Int32) (v1 : Int32) : ∀ r, fy_B_within v0 v1 = some r → (Pi h) r (ai_call G (d + 1) 155 [.int v0, .int v1] h) := by
  refine tq_meth (P := (Pi h)) (d := d) (Nat.le_of_ble_eq_true rfl) ?_
  show Tj G d 155 (Pi h) (fy_B_within v0 v1) 0 [some (.int v0), some (.int v1)] [] h
  unfold fy_B_within
  refine tq_iconst (v := 0) dX0_within_0 (by decide) ?_
  refine tq_iload_n dX0_within_1 rfl ?_
  refine tq_iload_n dX0_within_2 rfl ?_
  refine tq_imin dX0_within_3 rfl rfl rfl (Nat.le_of_ble_eq_true rfl) ?_
  refine tq_imax dX0_within_6 rfl rfl (Nat.le_of_ble_eq_true rfl) ?_
  exact tq_ireturn dX0_within_9 rfl rfl
theorem wfy_River_hotter {G : ai_G} {d : Nat} {h0 : ai_H} (hO : hOld G h0) (s : yS) (v0 : Nat) (v1 : Nat) (v2 : Int32) : ∀ r, fy_River_hotter G s v0 v1 v2 = some r → (PyI h0) r (ai_call G (d + 129) 156 [.ref v0, .ref v1, .int v2] (yH s h0)) := by
  refine tq_meth (P := (PyI h0)) (d := (d + 128)) (Nat.le_of_ble_eq_true rfl) ?_
  show Tj G (d + 128) 156 (PyI h0) (fy_River_hotter G s v0 v1 v2) 0 [some (.ref v0), some (.ref v1), some (.int v2)] [] (yH s h0)
  unfold fy_River_hotter
  refine tq_aload_n dX1_hotter_0 rfl ?_
  refine ty_gN dX1_hotter_1 rfl rfl (fun x1 => ?_)
  refine tq_ifnonnull dX1_hotter_4 rfl ?_ ?_
  · refine tq_aload_n dX1_hotter_9 rfl ?_
    refine ty_gR dX1_hotter_10 rfl rfl (fun x10 => ?_)
    refine tq_iconst (v := 0) dX1_hotter_13 (by decide) ?_
    refine tq_aload_n dX1_hotter_14 rfl ?_
    refine ty_gR dX1_hotter_15 rfl rfl (fun x15 => ?_)
    refine tq_iload_n dX1_hotter_18 rfl ?_
    refine ty_iald dX1_hotter_19 (fun x19 => ?_)
    refine ty_iast dX1_hotter_20 (fun s20 => ?_)
    refine tq_aload_n dX1_hotter_21 rfl ?_
    refine ty_gR dX1_hotter_22 rfl rfl (fun x22 => ?_)
    refine tq_iconst (v := 1) dX1_hotter_25 (by decide) ?_
    refine tq_aload_n dX1_hotter_26 rfl ?_
    refine ty_gR dX1_hotter_27 rfl rfl (fun x27 => ?_)
    refine tq_iload_n dX1_hotter_30 rfl ?_
    refine ty_iald dX1_hotter_31 (fun x31 => ?_)
    refine ty_iast dX1_hotter_32 (fun s32 => ?_)
    refine tq_aload_n dX1_hotter_33 rfl ?_
    refine ty_gR dX1_hotter_34 rfl rfl (fun x34 => ?_)
    refine tq_iconst (v := 2) dX1_hotter_37 (by decide) ?_
    refine tq_aload_n dX1_hotter_38 rfl ?_
    refine tq_aload_n dX1_hotter_39 rfl ?_
    refine tq_iload_n dX1_hotter_40 rfl ?_
    refine ty_v2_i dX1_hotter_41 rfl rfl rfl (Nat.le_of_ble_eq_true rfl) (wfy_State_burden hO (d := d + 123) _ _ _ _) (fun p41 => ?_)
    refine ty_iast dX1_hotter_44 (fun s44 => ?_)
    refine tq_aload_n dX1_hotter_45 rfl ?_
    refine ty_gR dX1_hotter_46 rfl rfl (fun x46 => ?_)
    refine tq_iconst (v := 3) dX1_hotter_49 (by decide) ?_
    refine tq_aload_n dX1_hotter_50 rfl ?_
    refine ty_gR dX1_hotter_51 rfl rfl (fun x51 => ?_)
    refine tq_iload_n dX1_hotter_54 rfl ?_
    refine ty_v1_r dX1_hotter_55 rfl rfl rfl (Nat.le_of_ble_eq_true rfl) (wfy_List_get hO (d := d + 125) _ _ _) (fun p55 => ?_)
    refine ty_cast dX1_hotter_58 rfl (fun _ => ?_)
    refine ty_gI dX1_hotter_61 rfl rfl (fun x61 => ?_)
    refine ty_iast dX1_hotter_64 (fun s64 => ?_)
    refine tq_aload_n dX1_hotter_65 rfl ?_
    refine ty_gR dX1_hotter_66 rfl rfl (fun x66 => ?_)
    refine tq_iconst (v := 4) dX1_hotter_69 (by decide) ?_
    refine tq_aload_n dX1_hotter_70 rfl ?_
    refine ty_gR dX1_hotter_71 rfl rfl (fun x71 => ?_)
    refine tq_iload_n dX1_hotter_74 rfl ?_
    refine ty_iald dX1_hotter_75 (fun x75 => ?_)
    refine ty_iast dX1_hotter_76 (fun s76 => ?_)
    refine tq_aload_n dX1_hotter_77 rfl ?_
    refine ty_gR dX1_hotter_78 rfl rfl (fun x78 => ?_)
    refine tq_iconst (v := 5) dX1_hotter_81 (by decide) ?_
    refine tq_aload_n dX1_hotter_82 rfl ?_
    refine ty_gR dX1_hotter_83 rfl rfl (fun x83 => ?_)
    refine tq_iload_n dX1_hotter_86 rfl ?_
    refine ty_iald dX1_hotter_87 (fun x87 => ?_)
    refine ty_iast dX1_hotter_88 (fun s88 => ?_)
    refine tq_aload_n dX1_hotter_89 rfl ?_
    refine ty_gR dX1_hotter_90 rfl rfl (fun x90 => ?_)
    refine tq_aload_n dX1_hotter_93 rfl ?_
    refine ty_gR dX1_hotter_94 rfl rfl (fun x94 => ?_)
    refine ty_of dX1_hotter_97 rfl rfl (Nat.le_of_ble_eq_true rfl) (fun c id h => by unfold ofid at h; split at h <;> first | (rename_i e; subst e; cases h; rfl) | (split at h <;> first | (rename_i e; subst e; cases h; rfl) | (split at h <;> first | (rename_i e; subst e; cases h; rfl) | (split at h <;> first | (rename_i e; subst e; cases h; rfl) | cases h)))) (fun b hb => hof_up (wfy_of hO 64 _ _ _ b hb) 0) (fun p97 => ?_)
    refine tq_bipush (v := 99) dX1_hotter_100 (by decide) ?_
    refine ty_s2_pi dX1_hotter_102 rfl rfl rfl (Nat.le_of_ble_eq_true rfl) (wfy_B_within (d := d + 127) _ _) (fun p102 => ?_)
    exact tq_ireturn dX1_hotter_105 rfl rfl
  · refine tq_iconst (v := 1) dX1_hotter_7 (by decide) ?_
    exact tq_ireturn dX1_hotter_8 rfl rfl
theorem wfy_B_hotter {G : ai_G} {d : Nat} {h0 : ai_H} (hO : hOld G h0) (s : yS) (v0 : Nat) (v1 : Int32) : ∀ r, fy_B_hotter G s v0 v1 = some r → (PyI h0) r (ai_call G (d + 130) 157 [.ref v0, .int v1] (yH s h0)) := by
  refine tq_meth (P := (PyI h0)) (d := (d + 129)) (Nat.le_of_ble_eq_true rfl) ?_
  show Tj G (d + 129) 157 (PyI h0) (fy_B_hotter G s v0 v1) 0 [some (.ref v0), some (.int v1)] [] (yH s h0)
  unfold fy_B_hotter
  refine tq_aload_n dX0_hotter_0 rfl ?_
  refine tq_iload_n dX0_hotter_1 rfl ?_
  refine ty_v1_i dX0_hotter_2 rfl rfl rfl (Nat.le_of_ble_eq_true rfl) (wfy_B_isBoard hO (d := d + 126) _ _ _) (fun p2 => ?_)
  refine tq_if_eq dX0_hotter_5 rfl ?_ ?_
  · refine tq_iconst (v := (-1)) dX0_hotter_23 (by decide) ?_
    exact tq_ireturn dX0_hotter_24 rfl rfl
  · refine tq_aload_n dX0_hotter_8 rfl ?_
    refine ty_gR dX0_hotter_9 rfl rfl (fun x9 => ?_)
    refine tq_aload_n dX0_hotter_12 rfl ?_
    refine ty_gR dX0_hotter_13 rfl rfl (fun x13 => ?_)
    refine tq_iload_n dX0_hotter_16 rfl ?_
    refine ty_v2_I dX0_hotter_17 rfl rfl rfl (Nat.le_of_ble_eq_true rfl) (wfy_River_hotter hO (d := d) _ _ _ _) (fun p17 => ?_)
    refine tq_goto dX0_hotter_20 rfl ?_
    exact tq_ireturn dX0_hotter_24 rfl rfl
theorem wfy_List_fastRemove_j34 {G : ai_G} {d : Nat} {h0 : ai_H} (hO : hOld G h0) (j2 : JV)   (s : yS) (v0 : Nat) (v1 : Nat) (v3 : Int32): Tj G d 162 (PyV h0) (fy_List_fastRemove_j34 G s v0 v1 v3) 34 [some (.ref v0), some (.ref v1), j2.1, some (.int v3)] [] (yH s h0) := by
  unfold fy_List_fastRemove_j34
  refine tq_aload_n dJ2_fastRemove_34 rfl ?_
  refine tq_aload_n dJ2_fastRemove_35 rfl ?_
  refine tq_iload_n dJ2_fastRemove_36 rfl ?_
  refine tq_dup_x1 dJ2_fastRemove_37 rfl rfl ?_
  refine ty_wI dJ2_fastRemove_38 rfl rfl rfl (fun s38 => ?_)
  refine tq_null dJ2_fastRemove_41 ?_
  refine ty_aast0 dJ2_fastRemove_42 (fun s42 => ?_)
  exact tq_return dJ2_fastRemove_43 rfl rfl
theorem wfy_List_fastRemove {G : ai_G} {d : Nat} {h0 : ai_H} (hO : hOld G h0) (s : yS) (v0 : Nat) (v1 : Nat) (v2 : Int32) : ∀ r, fy_List_fastRemove G s v0 v1 v2 = some r → (PyV h0) r (ai_call G (d + 1) 162 [.ref v0, .ref v1, .int v2] (yH s h0)) := by
  refine tq_meth (P := (PyV h0)) (d := d) (Nat.le_of_ble_eq_true rfl) ?_
  show Tj G d 162 (PyV h0) (fy_List_fastRemove G s v0 v1 v2) 0 [some (.ref v0), some (.ref v1), some (.int v2), none] [] (yH s h0)
  unfold fy_List_fastRemove
  refine tq_aload_n dJ2_fastRemove_0 rfl ?_
  refine tq_dup dJ2_fastRemove_1 rfl ?_
  refine ty_gI dJ2_fastRemove_2 rfl rfl (fun x2 => ?_)
  refine tq_iconst (v := 1) dJ2_fastRemove_5 (by decide) ?_
  refine tq_iadd dJ2_fastRemove_6 ?_
  refine ty_wI dJ2_fastRemove_7 rfl rfl rfl (fun s7 => ?_)
  refine tq_aload_n dJ2_fastRemove_10 rfl ?_
  refine ty_gI dJ2_fastRemove_11 rfl rfl (fun x11 => ?_)
  refine tq_iconst (v := 1) dJ2_fastRemove_14 (by decide) ?_
  refine tq_isub dJ2_fastRemove_15 ?_
  refine tq_dup dJ2_fastRemove_16 rfl ?_
  refine tq_istore_n (L' := [_, _, _, _]) dJ2_fastRemove_17 (Nat.le_of_ble_eq_true rfl) rfl ?_
  refine tq_iload_n dJ2_fastRemove_18 rfl ?_
  refine tq_icmp_le dJ2_fastRemove_19 rfl ?_ ?_
  · exact wfy_List_fastRemove_j34 hO ⟨some (.int v2), rfl⟩ _ _ _ _
  · refine tq_aload_n dJ2_fastRemove_22 rfl ?_
    refine tq_iload_n dJ2_fastRemove_23 rfl ?_
    refine tq_iconst (v := 1) dJ2_fastRemove_24 (by decide) ?_
    refine tq_iadd dJ2_fastRemove_25 ?_
    refine tq_aload_n dJ2_fastRemove_26 rfl ?_
    refine tq_iload_n dJ2_fastRemove_27 rfl ?_
    refine tq_iload_n dJ2_fastRemove_28 rfl ?_
    refine tq_iload_n dJ2_fastRemove_29 rfl ?_
    refine tq_isub dJ2_fastRemove_30 ?_
    refine ty_copyE dJ2_fastRemove_31 rfl (Nat.le_of_ble_eq_true rfl) (fun s31 => ?_)
    exact wfy_List_fastRemove_j34 hO ⟨some (.int v2), rfl⟩ _ _ _ _
theorem wfy_List_remove {G : ai_G} {d : Nat} {h0 : ai_H} (hO : hOld G h0) (s : yS) (v0 : Nat) (v1 : Int32) : ∀ r, fy_List_remove G s v0 v1 = some r → (PyR h0) r (ai_call G (d + 3) 163 [.ref v0, .int v1] (yH s h0)) := by
  refine tq_meth (P := (PyR h0)) (d := (d + 2)) (Nat.le_of_ble_eq_true rfl) ?_
  show Tj G (d + 2) 163 (PyR h0) (fy_List_remove G s v0 v1) 0 [some (.ref v0), some (.int v1), none, none] [] (yH s h0)
  unfold fy_List_remove
  refine tq_iload_n dJ2_remove_0 rfl ?_
  refine tq_aload_n dJ2_remove_1 rfl ?_
  refine ty_gI dJ2_remove_2 rfl rfl (fun x2 => ?_)
  refine ty_s2_pi dJ2_remove_5 rfl rfl rfl (Nat.le_of_ble_eq_true rfl) (wfy_J5_checkIndex (d := d) _ _) (fun p5 => ?_)
  refine tq_pop dJ2_remove_8 rfl ?_
  refine tq_aload_n dJ2_remove_9 rfl ?_
  refine ty_gR dJ2_remove_10 rfl rfl (fun x10 => ?_)
  refine tq_astore_n (L' := [_, _, _, _]) dJ2_remove_13 (Nat.le_of_ble_eq_true rfl) rfl ?_
  refine tq_aload_n dJ2_remove_14 rfl ?_
  refine tq_iload_n dJ2_remove_15 rfl ?_
  refine ty_aald hO dJ2_remove_16 (fun x16 => ?_)
  refine tq_astore_n (L' := [_, _, _, _]) dJ2_remove_17 (Nat.le_of_ble_eq_true rfl) rfl ?_
  refine tq_aload_n dJ2_remove_18 rfl ?_
  refine tq_aload_n dJ2_remove_19 rfl ?_
  refine tq_iload_n dJ2_remove_20 rfl ?_
  refine ty_v2_V dJ2_remove_21 rfl rfl rfl (Nat.le_of_ble_eq_true rfl) (wfy_List_fastRemove hO (d := d + 1) _ _ _ _) (fun p21 => ?_)
  refine tq_aload_n dJ2_remove_24 rfl ?_
  exact tq_areturn dJ2_remove_25 rfl rfl rfl
theorem wfy_State_of {G : ai_G} {d : Nat} {h0 : ai_H} (hO : hOld G h0) (s : yS) (v0 : Nat) (v1 : Nat) : ∀ r, fy_State_of G s v0 v1 = some r → (PyV h0) r (ai_call G (d + 1) 164 [.ref v0, .ref v1] (yH s h0)) := by
  refine tq_meth (P := (PyV h0)) (d := d) (Nat.le_of_ble_eq_true rfl) ?_
  show Tj G d 164 (PyV h0) (fy_State_of G s v0 v1) 0 [some (.ref v0), some (.ref v1)] [] (yH s h0)
  unfold fy_State_of
  refine tq_aload_n dX2_of_0 rfl ?_
  refine ty_gR dX2_of_1 rfl rfl (fun x1 => ?_)
  refine tq_iconst (v := 0) dX2_of_4 (by decide) ?_
  refine tq_aload_n dX2_of_5 rfl ?_
  refine ty_gR dX2_of_6 rfl rfl (fun x6 => ?_)
  refine tq_iconst (v := 0) dX2_of_9 (by decide) ?_
  refine tq_iconst (v := 4) dX2_of_10 (by decide) ?_
  refine ty_copyI dX2_of_11 rfl (Nat.le_of_ble_eq_true rfl) (fun s11 => ?_)
  refine tq_aload_n dX2_of_14 rfl ?_
  refine ty_gR dX2_of_15 rfl rfl (fun x15 => ?_)
  refine tq_iconst (v := 0) dX2_of_18 (by decide) ?_
  refine tq_aload_n dX2_of_19 rfl ?_
  refine ty_gR dX2_of_20 rfl rfl (fun x20 => ?_)
  refine tq_iconst (v := 0) dX2_of_23 (by decide) ?_
  refine tq_iconst (v := 4) dX2_of_24 (by decide) ?_
  refine ty_copyI dX2_of_25 rfl (Nat.le_of_ble_eq_true rfl) (fun s25 => ?_)
  refine tq_aload_n dX2_of_28 rfl ?_
  refine ty_gR dX2_of_29 rfl rfl (fun x29 => ?_)
  refine tq_iconst (v := 0) dX2_of_32 (by decide) ?_
  refine tq_aload_n dX2_of_33 rfl ?_
  refine ty_gR dX2_of_34 rfl rfl (fun x34 => ?_)
  refine tq_iconst (v := 0) dX2_of_37 (by decide) ?_
  refine tq_iconst (v := 4) dX2_of_38 (by decide) ?_
  refine ty_copyI dX2_of_39 rfl (Nat.le_of_ble_eq_true rfl) (fun s39 => ?_)
  refine tq_aload_n dX2_of_42 rfl ?_
  refine ty_gR dX2_of_43 rfl rfl (fun x43 => ?_)
  refine tq_iconst (v := 0) dX2_of_46 (by decide) ?_
  refine tq_aload_n dX2_of_47 rfl ?_
  refine ty_gR dX2_of_48 rfl rfl (fun x48 => ?_)
  refine tq_iconst (v := 0) dX2_of_51 (by decide) ?_
  refine tq_iconst (v := 4) dX2_of_52 (by decide) ?_
  refine ty_copyI dX2_of_53 rfl (Nat.le_of_ble_eq_true rfl) (fun s53 => ?_)
  refine tq_aload_n dX2_of_56 rfl ?_
  refine ty_gR dX2_of_57 rfl rfl (fun x57 => ?_)
  refine tq_iconst (v := 0) dX2_of_60 (by decide) ?_
  refine tq_aload_n dX2_of_61 rfl ?_
  refine ty_gR dX2_of_62 rfl rfl (fun x62 => ?_)
  refine tq_iconst (v := 0) dX2_of_65 (by decide) ?_
  refine tq_iconst (v := 4) dX2_of_66 (by decide) ?_
  refine ty_copyI dX2_of_67 rfl (Nat.le_of_ble_eq_true rfl) (fun s67 => ?_)
  refine tq_aload_n dX2_of_70 rfl ?_
  refine ty_gR dX2_of_71 rfl rfl (fun x71 => ?_)
  refine tq_iconst (v := 0) dX2_of_74 (by decide) ?_
  refine tq_aload_n dX2_of_75 rfl ?_
  refine ty_gR dX2_of_76 rfl rfl (fun x76 => ?_)
  refine tq_iconst (v := 0) dX2_of_79 (by decide) ?_
  refine tq_bipush (v := 7) dX2_of_80 (by decide) ?_
  refine ty_copyI dX2_of_82 rfl (Nat.le_of_ble_eq_true rfl) (fun s82 => ?_)
  refine tq_aload_n dX2_of_85 rfl ?_
  refine tq_aload_n dX2_of_86 rfl ?_
  refine ty_gI dX2_of_87 rfl rfl (fun x87 => ?_)
  refine ty_wI dX2_of_90 rfl rfl rfl (fun s90 => ?_)
  exact tq_return dX2_of_93 rfl rfl
theorem wfy_B_copy {G : ai_G} {d : Nat} {h0 : ai_H} (hO : hOld G h0) (s : yS) (v0 : Nat) : ∀ r, fy_B_copy G s v0 = some r → (PyR h0) r (ai_call G (d + 2) 165 [.ref v0] (yH s h0)) := by
  refine tq_meth (P := (PyR h0)) (d := (d + 1)) (Nat.le_of_ble_eq_true rfl) ?_
  show Tj G (d + 1) 165 (PyR h0) (fy_B_copy G s v0) 0 [some (.ref v0), none] [] (yH s h0)
  unfold fy_B_copy
  refine ty_new dX0_copy_0 rfl (fun s0 => ?_)
  refine tq_dup dX0_copy_3 rfl ?_
  refine ty_c0_V dX0_copy_4 rfl rfl rfl (Nat.le_of_ble_eq_true rfl) (wfy_State_init hO (d := d) _ _) (fun p4 => ?_)
  refine tq_astore_n (L' := [_, _]) dX0_copy_7 (Nat.le_of_ble_eq_true rfl) rfl ?_
  refine tq_aload_n dX0_copy_8 rfl ?_
  refine tq_aload_n dX0_copy_9 rfl ?_
  refine ty_v1_V dX0_copy_10 rfl rfl rfl (Nat.le_of_ble_eq_true rfl) (wfy_State_of hO (d := d) _ _ _) (fun p10 => ?_)
  refine tq_aload_n dX0_copy_13 rfl ?_
  exact tq_areturn dX0_copy_14 rfl rfl rfl
theorem wfy_B_keepAct_j21 {G : ai_G} {d : Nat} {h0 : ai_H} (hO : hOld G h0)    (s : yS) (v0 : Nat): Tj G (d + 6) 166 (PyV h0) (fy_B_keepAct_j21 G s v0) 21 [some (.ref v0)] [] (yH s h0) := by
  unfold fy_B_keepAct_j21
  refine tq_aload_n dX0_keepAct_21 rfl ?_
  refine ty_gR dX0_keepAct_22 rfl rfl (fun x22 => ?_)
  refine ty_new dX0_keepAct_25 rfl (fun s25 => ?_)
  refine tq_dup dX0_keepAct_28 rfl ?_
  refine tq_aload_n dX0_keepAct_29 rfl ?_
  refine ty_gR dX0_keepAct_30 rfl rfl (fun x30 => ?_)
  refine ty_s1_R dX0_keepAct_33 rfl rfl rfl (Nat.le_of_ble_eq_true rfl) (wfy_B_copy hO (d := d + 4) _ _) (fun p33 => ?_)
  refine ty_c1_V dX0_keepAct_36 rfl rfl rfl (Nat.le_of_ble_eq_true rfl) (wfy_Kept_init hO (d := d + 5) _ _ _) (fun p36 => ?_)
  refine ty_v1_I dX0_keepAct_39 rfl rfl rfl (Nat.le_of_ble_eq_true rfl) (wfy_List_add hO (d := d) _ _ _) (fun p39 => ?_)
  refine tq_pop dX0_keepAct_42 rfl ?_
  refine tq_aload_n dX0_keepAct_43 rfl ?_
  refine ty_gR dX0_keepAct_44 rfl rfl (fun x44 => ?_)
  refine ty_v0_V dX0_keepAct_47 rfl rfl rfl (Nat.le_of_ble_eq_true rfl) (wfy_List_clear hO (d := d + 5) _ _) (fun p47 => ?_)
  exact tq_return dX0_keepAct_50 rfl rfl
theorem wfy_B_keepAct {G : ai_G} {d : Nat} {h0 : ai_H} (hO : hOld G h0) (s : yS) (v0 : Nat) : ∀ r, fy_B_keepAct G s v0 = some r → (PyV h0) r (ai_call G (d + 7) 166 [.ref v0] (yH s h0)) := by
  refine tq_meth (P := (PyV h0)) (d := (d + 6)) (Nat.le_of_ble_eq_true rfl) ?_
  show Tj G (d + 6) 166 (PyV h0) (fy_B_keepAct G s v0) 0 [some (.ref v0)] [] (yH s h0)
  unfold fy_B_keepAct
  refine tq_aload_n dX0_keepAct_0 rfl ?_
  refine ty_gR dX0_keepAct_1 rfl rfl (fun x1 => ?_)
  refine ty_v0_i dX0_keepAct_4 rfl rfl rfl (Nat.le_of_ble_eq_true rfl) (wfy_List_size hO (d := d + 5) _ _) (fun p4 => ?_)
  refine tq_bipush (v := 40) dX0_keepAct_7 (by decide) ?_
  refine tq_icmp_ne dX0_keepAct_9 rfl ?_ ?_
  · exact wfy_B_keepAct_j21 hO _ _
  · refine tq_aload_n dX0_keepAct_12 rfl ?_
    refine ty_gR dX0_keepAct_13 rfl rfl (fun x13 => ?_)
    refine tq_iconst (v := 0) dX0_keepAct_16 (by decide) ?_
    refine ty_v1_R dX0_keepAct_17 rfl rfl rfl (Nat.le_of_ble_eq_true rfl) (wfy_List_remove hO (d := d + 3) _ _ _) (fun p17 => ?_)
    refine tq_pop dX0_keepAct_20 rfl ?_
    exact wfy_B_keepAct_j21 hO _ _
theorem wfy_State_stroke_j147 {G : ai_G} {d : Nat} {h0 : ai_H} (hO : hOld G h0) (j3 : JV) (j4 : JV) (j5 : JV) (j7 : JV) (j8 : JV) (j9 : JV)   (s : yS) (v0 : Nat) (v1 : Nat) (v2 : Int32) (v6 : Int32) (v10 : Int32): Tj G (d + 129) 167 (PyI h0) (fy_State_stroke_j147 G s v0 v1 v2 v6 v10) 147 [some (.ref v0), some (.ref v1), some (.int v2), j3.1, j4.1, j5.1, some (.int v6), j7.1, j8.1, j9.1, some (.int v10)] [] (yH s h0) := by
  unfold fy_State_stroke_j147
  refine tq_aload_n dX2_stroke_147 rfl ?_
  refine ty_gR dX2_stroke_148 rfl rfl (fun x148 => ?_)
  refine tq_iload_n dX2_stroke_151 rfl ?_
  refine tq_bipush (v := 99) dX2_stroke_152 (by decide) ?_
  refine tq_aload_n dX2_stroke_154 rfl ?_
  refine ty_gR dX2_stroke_155 rfl rfl (fun x155 => ?_)
  refine tq_iload_n dX2_stroke_158 rfl ?_
  refine ty_iald dX2_stroke_159 (fun x159 => ?_)
  refine tq_iload dX2_stroke_160 rfl ?_
  refine tq_iadd dX2_stroke_162 ?_
  refine tq_imin dX2_stroke_163 rfl rfl rfl (Nat.le_of_ble_eq_true rfl) ?_
  refine ty_iast dX2_stroke_166 (fun s166 => ?_)
  refine tq_aload_n dX2_stroke_167 rfl ?_
  refine ty_gR dX2_stroke_168 rfl rfl (fun x168 => ?_)
  refine tq_iload_n dX2_stroke_171 rfl ?_
  refine ty_iald dX2_stroke_172 (fun x172 => ?_)
  refine tq_aload_n dX2_stroke_173 rfl ?_
  refine ty_gR dX2_stroke_174 rfl rfl (fun x174 => ?_)
  refine tq_iload_n dX2_stroke_177 rfl ?_
  refine ty_v1_r dX2_stroke_178 rfl rfl rfl (Nat.le_of_ble_eq_true rfl) (wfy_List_get hO (d := d + 126) _ _ _) (fun p178 => ?_)
  refine ty_cast dX2_stroke_181 rfl (fun _ => ?_)
  refine ty_gI dX2_stroke_184 rfl rfl (fun x184 => ?_)
  refine tq_icmp_gt dX2_stroke_187 rfl ?_ ?_
  · refine tq_aload_n dX2_stroke_201 rfl ?_
    refine ty_gR dX2_stroke_202 rfl rfl (fun x202 => ?_)
    refine tq_iload_n dX2_stroke_205 rfl ?_
    refine tq_iconst (v := 0) dX2_stroke_206 (by decide) ?_
    refine ty_iast dX2_stroke_207 (fun s207 => ?_)
    refine tq_aload_n dX2_stroke_208 rfl ?_
    refine ty_gR dX2_stroke_209 rfl rfl (fun x209 => ?_)
    refine tq_iload_n dX2_stroke_212 rfl ?_
    refine tq_sipush (v := 999) dX2_stroke_213 (by decide) ?_
    refine tq_aload_n dX2_stroke_216 rfl ?_
    refine ty_gR dX2_stroke_217 rfl rfl (fun x217 => ?_)
    refine tq_iload_n dX2_stroke_220 rfl ?_
    refine ty_iald dX2_stroke_221 (fun x221 => ?_)
    refine tq_iconst (v := 1) dX2_stroke_222 (by decide) ?_
    refine tq_iadd dX2_stroke_223 ?_
    refine tq_imin dX2_stroke_224 rfl rfl rfl (Nat.le_of_ble_eq_true rfl) ?_
    refine ty_iast dX2_stroke_227 (fun s227 => ?_)
    refine tq_iload dX2_stroke_228 rfl ?_
    refine tq_if_eq dX2_stroke_230 rfl ?_ ?_
    · refine tq_iconst (v := 2) dX2_stroke_237 (by decide) ?_
      exact tq_ireturn dX2_stroke_238 rfl rfl
    · refine tq_iconst (v := 3) dX2_stroke_233 (by decide) ?_
      refine tq_goto dX2_stroke_234 rfl ?_
      exact tq_ireturn dX2_stroke_238 rfl rfl
  · refine tq_iload dX2_stroke_190 rfl ?_
    refine tq_if_eq dX2_stroke_192 rfl ?_ ?_
    · refine tq_iconst (v := 0) dX2_stroke_199 (by decide) ?_
      exact tq_ireturn dX2_stroke_200 rfl rfl
    · refine tq_iconst (v := 1) dX2_stroke_195 (by decide) ?_
      refine tq_goto dX2_stroke_196 rfl ?_
      exact tq_ireturn dX2_stroke_200 rfl rfl
theorem wfy_State_stroke_j98 {G : ai_G} {d : Nat} {h0 : ai_H} (hO : hOld G h0) (j3 : JV) (j4 : JV) (j5 : JV) (j7 : JV) (j9 : JV) (j10 : JV)   (s : yS) (v0 : Nat) (v1 : Nat) (v2 : Int32) (v6 : Int32) (v8 : Int32) (t0 : Int32) (t1 : Int32): Tj G (d + 129) 167 (PyI h0) (fy_State_stroke_j98 G s v0 v1 v2 v6 v8 t0 t1) 98 [some (.ref v0), some (.ref v1), some (.int v2), j3.1, j4.1, j5.1, some (.int v6), j7.1, some (.int v8), j9.1, j10.1] [.int t1, .int t0] (yH s h0) := by
  unfold fy_State_stroke_j98
  refine tq_iadd dX2_stroke_98 ?_
  refine tq_istore (L' := [_, _, _, _, _, _, _, _, _, _, _]) dX2_stroke_99 (Nat.le_of_ble_eq_true rfl) rfl ?_
  refine tq_aload_n dX2_stroke_101 rfl ?_
  refine ty_gR dX2_stroke_102 rfl rfl (fun x102 => ?_)
  refine tq_aload_n dX2_stroke_105 rfl ?_
  refine tq_iload dX2_stroke_106 rfl ?_
  refine tq_iload dX2_stroke_108 rfl ?_
  refine ty_v2_i dX2_stroke_110 rfl rfl rfl (Nat.le_of_ble_eq_true rfl) (wfy_River_cell hO (d := d + 128) _ _ _ _) (fun p110 => ?_)
  refine ty_bald hO dX2_stroke_113 (fun x113 => ?_)
  refine tq_istore (L' := [_, _, _, _, _, _, _, _, _, _, _]) dX2_stroke_114 (Nat.le_of_ble_eq_true rfl) rfl ?_
  refine tq_aload_n dX2_stroke_116 rfl ?_
  refine ty_gR dX2_stroke_117 rfl rfl (fun x117 => ?_)
  refine tq_iload_n dX2_stroke_120 rfl ?_
  refine tq_dup2 dX2_stroke_121 rfl rfl ?_
  refine ty_iald dX2_stroke_122 (fun x122 => ?_)
  refine tq_iconst (v := 1) dX2_stroke_123 (by decide) ?_
  refine tq_iadd dX2_stroke_124 ?_
  refine ty_iast dX2_stroke_125 (fun s125 => ?_)
  refine tq_iload dX2_stroke_126 rfl ?_
  refine tq_if_ne dX2_stroke_128 rfl ?_ ?_
  · exact wfy_State_stroke_j147 hO j3 j4 j5 j7 ⟨some (.int v8), rfl⟩ ⟨some (.int (t0 + t1)), rfl⟩ _ _ _ _ _ _
  · refine tq_aload_n dX2_stroke_131 rfl ?_
    refine ty_gR dX2_stroke_132 rfl rfl (fun x132 => ?_)
    refine tq_iload_n dX2_stroke_135 rfl ?_
    refine tq_iload dX2_stroke_136 rfl ?_
    refine ty_iast dX2_stroke_138 (fun s138 => ?_)
    refine tq_aload_n dX2_stroke_139 rfl ?_
    refine ty_gR dX2_stroke_140 rfl rfl (fun x140 => ?_)
    refine tq_iload_n dX2_stroke_143 rfl ?_
    refine tq_iload dX2_stroke_144 rfl ?_
    refine ty_iast dX2_stroke_146 (fun s146 => ?_)
    exact wfy_State_stroke_j147 hO j3 j4 j5 j7 ⟨some (.int v8), rfl⟩ ⟨some (.int (t0 + t1)), rfl⟩ _ _ _ _ _ _
theorem wfy_State_stroke_j70 {G : ai_G} {d : Nat} {h0 : ai_H} (hO : hOld G h0) (j3 : JV) (j5 : JV) (j7 : JV) (j8 : JV) (j9 : JV) (j10 : JV)   (s : yS) (v0 : Nat) (v1 : Nat) (v2 : Int32) (v4 : Int32) (v6 : Int32) (t0 : Int32) (t1 : Int32): Tj G (d + 129) 167 (PyI h0) (fy_State_stroke_j70 G s v0 v1 v2 v4 v6 t0 t1) 70 [some (.ref v0), some (.ref v1), some (.int v2), j3.1, some (.int v4), j5.1, some (.int v6), j7.1, j8.1, j9.1, j10.1] [.int t1, .int t0] (yH s h0) := by
  unfold fy_State_stroke_j70
  refine tq_iadd dX2_stroke_70 ?_
  refine tq_aload_n dX2_stroke_71 rfl ?_
  refine ty_gI dX2_stroke_72 rfl rfl (fun x72 => ?_)
  refine tq_iconst (v := 1) dX2_stroke_75 (by decide) ?_
  refine tq_isub dX2_stroke_76 ?_
  refine ty_s2_pi dX2_stroke_77 rfl rfl rfl (Nat.le_of_ble_eq_true rfl) (wfy_B_within (d := d + 128) _ _) (fun p77 => ?_)
  refine tq_istore (L' := [_, _, _, _, _, _, _, _, _, _, _]) dX2_stroke_80 (Nat.le_of_ble_eq_true rfl) (st1_jv (i := 7) (j := j7) rfl rfl) ?_
  refine tq_aload_n dX2_stroke_82 rfl ?_
  refine ty_gR dX2_stroke_83 rfl rfl (fun x83 => ?_)
  refine tq_iload_n dX2_stroke_86 rfl ?_
  refine ty_iald dX2_stroke_87 (fun x87 => ?_)
  refine tq_iload dX2_stroke_88 rfl ?_
  refine tq_if_eq dX2_stroke_90 rfl ?_ ?_
  · refine tq_iconst (v := (-1)) dX2_stroke_97 (by decide) ?_
    exact wfy_State_stroke_j98 hO j3 ⟨some (.int v4), rfl⟩ j5 j7 j9 j10 _ _ _ _ _ _ _ _
  · refine tq_iconst (v := 1) dX2_stroke_93 (by decide) ?_
    refine tq_goto dX2_stroke_94 rfl ?_
    exact wfy_State_stroke_j98 hO j3 ⟨some (.int v4), rfl⟩ j5 j7 j9 j10 _ _ _ _ _ _ _ _
theorem wfy_State_stroke_j46 {G : ai_G} {d : Nat} {h0 : ai_H} (hO : hOld G h0) (j7 : JV) (j8 : JV) (j9 : JV) (j10 : JV)   (s : yS) (v0 : Nat) (v1 : Nat) (v2 : Int32) (v3 : Int32) (v4 : Int32) (v5 : Int32) (v6 : Int32) (t0 : Int32): Tj G (d + 129) 167 (PyI h0) (fy_State_stroke_j46 G s v0 v1 v2 v3 v4 v5 v6 t0) 46 [some (.ref v0), some (.ref v1), some (.int v2), some (.int v3), some (.int v4), some (.int v5), some (.int v6), j7.1, j8.1, j9.1, j10.1] [.int t0] (yH s h0) := by
  unfold fy_State_stroke_j46
  refine tq_istore (L' := [_, _, _, _, _, _, _, _, _, _, _]) dX2_stroke_46 (Nat.le_of_ble_eq_true rfl) rfl ?_
  refine tq_aload_n dX2_stroke_48 rfl ?_
  refine ty_gR dX2_stroke_49 rfl rfl (fun x49 => ?_)
  refine tq_iload_n dX2_stroke_52 rfl ?_
  refine ty_iald dX2_stroke_53 (fun x53 => ?_)
  refine tq_iload_n dX2_stroke_54 rfl ?_
  refine tq_iadd dX2_stroke_55 ?_
  refine tq_iload dX2_stroke_56 rfl ?_
  refine tq_if_eq dX2_stroke_58 rfl ?_ ?_
  · refine tq_iload dX2_stroke_68 rfl ?_
    exact wfy_State_stroke_j70 hO ⟨some (.int v3), rfl⟩ ⟨some (.int v5), rfl⟩ ⟨some (.int t0), rfl⟩ j8 j9 j10 _ _ _ _ _ _ _ _
  · refine tq_iconst (v := 2) dX2_stroke_61 (by decide) ?_
    refine tq_iload dX2_stroke_62 rfl ?_
    refine tq_imul dX2_stroke_64 ?_
    refine tq_goto dX2_stroke_65 rfl ?_
    exact wfy_State_stroke_j70 hO ⟨some (.int v3), rfl⟩ ⟨some (.int v5), rfl⟩ ⟨some (.int t0), rfl⟩ j8 j9 j10 _ _ _ _ _ _ _ _
theorem wfy_State_stroke {G : ai_G} {d : Nat} {h0 : ai_H} (hO : hOld G h0) (s : yS) (v0 : Nat) (v1 : Nat) (v2 : Int32) (v3 : Int32) (v4 : Int32) (v5 : Int32) : ∀ r, fy_State_stroke G s v0 v1 v2 v3 v4 v5 = some r → (PyI h0) r (ai_call G (d + 130) 167 [.ref v0, .ref v1, .int v2, .int v3, .int v4, .int v5] (yH s h0)) := by
  refine tq_meth (P := (PyI h0)) (d := (d + 129)) (Nat.le_of_ble_eq_true rfl) ?_
  show Tj G (d + 129) 167 (PyI h0) (fy_State_stroke G s v0 v1 v2 v3 v4 v5) 0 [some (.ref v0), some (.ref v1), some (.int v2), some (.int v3), some (.int v4), some (.int v5), none, none, none, none, none] [] (yH s h0)
  unfold fy_State_stroke
  refine tq_aload_n dX2_stroke_0 rfl ?_
  refine tq_aload_n dX2_stroke_1 rfl ?_
  refine tq_iload_n dX2_stroke_2 rfl ?_
  refine ty_v2_I dX2_stroke_3 rfl rfl rfl (Nat.le_of_ble_eq_true rfl) (wfy_River_hotter hO (d := d) _ _ _ _) (fun p3 => ?_)
  refine tq_istore (L' := [_, _, _, _, _, _, _, _, _, _, _]) dX2_stroke_6 (Nat.le_of_ble_eq_true rfl) rfl ?_
  refine tq_aload_n dX2_stroke_8 rfl ?_
  refine ty_gR dX2_stroke_9 rfl rfl (fun x9 => ?_)
  refine tq_iload_n dX2_stroke_12 rfl ?_
  refine ty_iald dX2_stroke_13 (fun x13 => ?_)
  refine tq_aload_n dX2_stroke_14 rfl ?_
  refine ty_gI dX2_stroke_15 rfl rfl (fun x15 => ?_)
  refine tq_icmp_ge dX2_stroke_18 rfl ?_ ?_
  · refine tq_iconst (v := 0) dX2_stroke_45 (by decide) ?_
    exact wfy_State_stroke_j46 hO ⟨none, rfl⟩ ⟨none, rfl⟩ ⟨none, rfl⟩ ⟨none, rfl⟩ _ _ _ _ _ _ _ _ _
  · refine tq_aload_n dX2_stroke_21 rfl ?_
    refine ty_gR dX2_stroke_22 rfl rfl (fun x22 => ?_)
    refine tq_aload_n dX2_stroke_25 rfl ?_
    refine tq_aload_n dX2_stroke_26 rfl ?_
    refine ty_gR dX2_stroke_27 rfl rfl (fun x27 => ?_)
    refine tq_iload_n dX2_stroke_30 rfl ?_
    refine ty_iald dX2_stroke_31 (fun x31 => ?_)
    refine tq_aload_n dX2_stroke_32 rfl ?_
    refine ty_gR dX2_stroke_33 rfl rfl (fun x33 => ?_)
    refine tq_iload_n dX2_stroke_36 rfl ?_
    refine ty_iald dX2_stroke_37 (fun x37 => ?_)
    refine ty_v2_i dX2_stroke_38 rfl rfl rfl (Nat.le_of_ble_eq_true rfl) (wfy_River_cell hO (d := d + 128) _ _ _ _) (fun p38 => ?_)
    refine ty_iald dX2_stroke_41 (fun x41 => ?_)
    refine tq_goto dX2_stroke_42 rfl ?_
    exact wfy_State_stroke_j46 hO ⟨none, rfl⟩ ⟨none, rfl⟩ ⟨none, rfl⟩ ⟨none, rfl⟩ _ _ _ _ _ _ _ _ _

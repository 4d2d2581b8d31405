/-! WALKS of the component (printed by tools/decy.py) -/
set_option maxRecDepth 100000
abbrev Pfy_B_widest_b64 (G : ai_G) (d : Nat) (h0 : ai_H) (s : yS) (v0 : Nat) (v1 : Int32) (v2 : Int32) (v3 : Int32) : (Int32 × Int32) ⊕ Int32 → Option ai_R → Prop := Sum.elim (fun (q : Int32 × Int32) run => ∃ J : Unit, run = ai_run G (d + 6) 217 64 [some (.ref v0), some (.int v1), some (.int v2), some (.int v3), some (.int q.1), some (.int q.2)] [] (yH s h0)) (fun (q : Int32) run => ∃ J : JV × JV × JV, run = ai_run G (d + 6) 217 132 [some (.ref v0), J.1.1, some (.int v2), J.2.1.1, some (.int q), J.2.2.1] [] (yH s h0))
theorem Bfy_B_widest_b64 {G : ai_G} {d : Nat} {h0 : ai_H} (hO : hOld G h0) (s : yS) (v0 : Nat) (v1 : Int32) (v2 : Int32) (v3 : Int32) (b0 : Int32) (b1 : Int32) (J : Unit) : Tj G (d + 6) 217 (Pfy_B_widest_b64 G d h0 s v0 v1 v2 v3) (some (.inl (b0, b1))) 64 [some (.ref v0), some (.int v1), some (.int v2), some (.int v3), some (.int b0), some (.int b1)] [] (yH s h0) := tq_back J rfl rfl
theorem Efy_B_widest_b64 {G : ai_G} {d : Nat} {h0 : ai_H} (hO : hOld G h0) (s : yS) (v0 : Nat) (v1 : Int32) (v2 : Int32) (v3 : Int32) (b0 : Int32) (J : JV × JV × JV) : Tj G (d + 6) 217 (Pfy_B_widest_b64 G d h0 s v0 v1 v2 v3) (some (.inr b0)) 132 [some (.ref v0), J.1.1, some (.int v2), J.2.1.1, some (.int b0), J.2.2.1] [] (yH s h0) := tq_exit J rfl rfl
theorem wfy_B_widest_b64 {G : ai_G} {d : Nat} {h0 : ai_H} (hO : hOld G h0) (s : yS) (v0 : Nat) (v1 : Int32) (v2 : Int32) (v3 : Int32) (q : Int32 × Int32) (J : Unit) : Tj G (d + 6) 217 (Pfy_B_widest_b64 G d h0 s v0 v1 v2 v3) (fy_B_widest_b64 G s v0 v1 v2 v3 q) 64 [some (.ref v0), some (.int v1), some (.int v2), some (.int v3), some (.int q.1), some (.int q.2)] [] (yH s h0) := by
  unfold fy_B_widest_b64
  refine tq_iload dX0_widest_64 rfl ?_
  refine tq_iconst (v := 1) dX0_widest_66 (by decide) ?_
  refine tq_aload_n dX0_widest_67 rfl ?_
  refine ty_v0_i dX0_widest_68 rfl rfl rfl (Nat.le_of_ble_eq_true rfl) (wfy_B_loads hO (d := d + 4) _ _) (fun p68 => ?_)
  refine tq_ishl dX0_widest_71 ?_
  refine tq_icmp_ge dX0_widest_72 rfl ?_ ?_
  · exact Efy_B_widest_b64 hO _ _ _ _ _ _ (⟨some (.int v1), rfl⟩, ⟨some (.int v3), rfl⟩, ⟨some (.int q.2), rfl⟩)
  · refine tq_iload dX0_widest_75 rfl ?_
    refine tq_iload_n dX0_widest_77 rfl ?_
    refine tq_iconst (v := (-1)) dX0_widest_78 (by decide) ?_
    refine tq_ixor dX0_widest_79 ?_
    refine tq_iand dX0_widest_80 ?_
    refine tq_if_ne dX0_widest_81 rfl ?_ ?_
    · refine tq_iinc (v := (q.2 + 1)) (L' := [_, _, _, _, _, _]) dX0_widest_126 rfl (Nat.le_of_ble_eq_true rfl) rfl rfl ?_
      refine tq_goto dX0_widest_129 rfl ?_
      exact Bfy_B_widest_b64 hO _ _ _ _ _ _ _ ()
    · refine tq_aload_n dX0_widest_84 rfl ?_
      refine tq_iload_n dX0_widest_85 rfl ?_
      refine tq_aload_n dX0_widest_86 rfl ?_
      refine ty_gR dX0_widest_87 rfl rfl (fun x87 => ?_)
      refine tq_iload dX0_widest_90 rfl ?_
      refine ty_v1_i dX0_widest_92 rfl rfl rfl (Nat.le_of_ble_eq_true rfl) (wfy_River_widthOf hO (d := d + 2) _ _ _) (fun p92 => ?_)
      refine ty_v2_i dX0_widest_95 rfl rfl rfl (Nat.le_of_ble_eq_true rfl) (wfy_B_liesFlat hO (d := d) _ _ _ _) (fun p95 => ?_)
      refine tq_if_eq dX0_widest_98 rfl ?_ ?_
      · refine tq_iinc (v := (q.2 + 1)) (L' := [_, _, _, _, _, _]) dX0_widest_126 rfl (Nat.le_of_ble_eq_true rfl) rfl rfl ?_
        refine tq_goto dX0_widest_129 rfl ?_
        exact Bfy_B_widest_b64 hO _ _ _ _ _ _ _ ()
      · refine tq_aload_n dX0_widest_101 rfl ?_
        refine ty_gR dX0_widest_102 rfl rfl (fun x102 => ?_)
        refine tq_iload dX0_widest_105 rfl ?_
        refine ty_v1_i dX0_widest_107 rfl rfl rfl (Nat.le_of_ble_eq_true rfl) (wfy_River_widthOf hO (d := d + 2) _ _ _) (fun p107 => ?_)
        refine tq_aload_n dX0_widest_110 rfl ?_
        refine ty_gR dX0_widest_111 rfl rfl (fun x111 => ?_)
        refine tq_iload dX0_widest_114 rfl ?_
        refine ty_v1_i dX0_widest_116 rfl rfl rfl (Nat.le_of_ble_eq_true rfl) (wfy_River_widthOf hO (d := d + 2) _ _ _) (fun p116 => ?_)
        refine tq_icmp_le dX0_widest_119 rfl ?_ ?_
        · refine tq_iinc (v := (q.2 + 1)) (L' := [_, _, _, _, _, _]) dX0_widest_126 rfl (Nat.le_of_ble_eq_true rfl) rfl rfl ?_
          refine tq_goto dX0_widest_129 rfl ?_
          exact Bfy_B_widest_b64 hO _ _ _ _ _ _ _ ()
        · refine tq_iload dX0_widest_122 rfl ?_
          refine tq_istore (L' := [_, _, _, _, _, _]) dX0_widest_124 (Nat.le_of_ble_eq_true rfl) rfl ?_
          refine tq_iinc (v := (q.2 + 1)) (L' := [_, _, _, _, _, _]) dX0_widest_126 rfl (Nat.le_of_ble_eq_true rfl) rfl rfl ?_
          refine tq_goto dX0_widest_129 rfl ?_
          exact Bfy_B_widest_b64 hO _ _ _ _ _ _ _ ()
theorem Sfy_B_widest_b64 {G : ai_G} {d : Nat} {h0 : ai_H} (hO : hOld G h0) {α : Type} {P : α → Option ai_R → Prop} (s : yS) (v0 : Nat) (v1 : Int32) (v2 : Int32) (v3 : Int32) (b0 : Int32) (b1 : Int32) (J : Unit) {r : Int32 → Option α} (kk : ∀ (q : Int32) (J : JV × JV × JV), Tj G (d + 6) 217 P (r q) 132 [some (.ref v0), J.1.1, some (.int v2), J.2.1.1, some (.int q), J.2.2.1] [] (yH s h0)) : Tj G (d + 6) 217 P ((lp (fy_B_widest_b64 G s v0 v1 v2 v3) (b0, b1)).bind r) 64 [some (.ref v0), some (.int v1), some (.int v2), some (.int v3), some (.int b0), some (.int b1)] [] (yH s h0) := tq_lp1 (J := J) (fun q J => wfy_B_widest_b64 hO s v0 v1 v2 v3 q J) rfl rfl kk
theorem wfy_B_widest {G : ai_G} {d : Nat} {h0 : ai_H} (hO : hOld G h0) (s : yS) (v0 : Nat) (v1 : Int32) (v2 : Int32) : ∀ r, fy_B_widest G s v0 v1 v2 = some r → (Pi (yH s h0)) r (ai_call G (d + 7) 217 [.ref v0, .int v1, .int v2] (yH s h0)) := by
  refine tq_meth (P := (Pi (yH s h0))) (d := (d + 6)) (Nat.le_of_ble_eq_true rfl) ?_
  show Tj G (d + 6) 217 (Pi (yH s h0)) (fy_B_widest G s v0 v1 v2) 0 [some (.ref v0), some (.int v1), some (.int v2), none, none, none] [] (yH s h0)
  unfold fy_B_widest
  refine tq_aload_n dX0_widest_0 rfl ?_
  refine tq_iload_n dX0_widest_1 rfl ?_
  refine ty_v1_i dX0_widest_2 rfl rfl rfl (Nat.le_of_ble_eq_true rfl) (wfy_B_isBoard hO (d := d + 3) _ _ _) (fun p2 => ?_)
  refine tq_if_eq dX0_widest_5 rfl ?_ ?_
  · refine tq_iconst (v := (-1)) dX0_widest_32 (by decide) ?_
    exact tq_ireturn dX0_widest_33 rfl rfl
  · refine tq_iload_n dX0_widest_8 rfl ?_
    refine tq_iconst (v := 0) dX0_widest_9 (by decide) ?_
    refine tq_iconst (v := 1) dX0_widest_10 (by decide) ?_
    refine ty_s3_pi dX0_widest_11 rfl rfl rfl (Nat.le_of_ble_eq_true rfl) (wfy_B_isIn (d := d + 5) _ _ _) (fun p11 => ?_)
    refine tq_if_eq dX0_widest_14 rfl ?_ ?_
    · refine tq_iconst (v := (-1)) dX0_widest_32 (by decide) ?_
      exact tq_ireturn dX0_widest_33 rfl rfl
    · refine tq_aload_n dX0_widest_17 rfl ?_
      refine ty_gR dX0_widest_18 rfl rfl (fun x18 => ?_)
      refine tq_aload_n dX0_widest_21 rfl ?_
      refine ty_gR dX0_widest_22 rfl rfl (fun x22 => ?_)
      refine tq_iload_n dX0_widest_25 rfl ?_
      refine ty_v2_i dX0_widest_26 rfl rfl rfl (Nat.le_of_ble_eq_true rfl) (wfy_State_bankOf hO (d := d + 5) _ _ _ _) (fun p26 => ?_)
      refine tq_if_ne dX0_widest_29 rfl ?_ ?_
      · refine tq_aload_n dX0_widest_34 rfl ?_
        refine ty_gR dX0_widest_35 rfl rfl (fun x35 => ?_)
        refine tq_aload_n dX0_widest_38 rfl ?_
        refine ty_gR dX0_widest_39 rfl rfl (fun x39 => ?_)
        refine tq_aload_n dX0_widest_42 rfl ?_
        refine ty_gR dX0_widest_43 rfl rfl (fun x43 => ?_)
        refine tq_aload_n dX0_widest_46 rfl ?_
        refine ty_gR dX0_widest_47 rfl rfl (fun x47 => ?_)
        refine tq_iload_n dX0_widest_50 rfl ?_
        refine ty_v2_i dX0_widest_51 rfl rfl rfl (Nat.le_of_ble_eq_true rfl) (wfy_State_bankOf hO (d := d + 5) _ _ _ _) (fun p51 => ?_)
        refine ty_v2_i dX0_widest_54 rfl rfl rfl (Nat.le_of_ble_eq_true rfl) (wfy_State_loadsAt hO (d := d + 4) _ _ _ _) (fun p54 => ?_)
        refine tq_istore_n (L' := [_, _, _, _, _, _]) dX0_widest_57 (Nat.le_of_ble_eq_true rfl) rfl ?_
        refine tq_iconst (v := 0) dX0_widest_58 (by decide) ?_
        refine tq_istore (L' := [_, _, _, _, _, _]) dX0_widest_59 (Nat.le_of_ble_eq_true rfl) rfl ?_
        refine tq_iconst (v := 1) dX0_widest_61 (by decide) ?_
        refine tq_istore (L' := [_, _, _, _, _, _]) dX0_widest_62 (Nat.le_of_ble_eq_true rfl) rfl ?_
        refine Sfy_B_widest_b64 hO _ _ _ _ _ _ _ () (fun q64 J64 => ?_)
        refine tq_iload_n dX0_widest_132 rfl ?_
        refine tq_if_ne dX0_widest_133 rfl ?_ ?_
        · refine tq_iload dX0_widest_148 rfl ?_
          exact tq_ireturn dX0_widest_150 rfl rfl
        · refine tq_aload_n dX0_widest_136 rfl ?_
          refine ty_gR dX0_widest_137 rfl rfl (fun x137 => ?_)
          refine tq_iload dX0_widest_140 rfl ?_
          refine ty_v1_i dX0_widest_142 rfl rfl rfl (Nat.le_of_ble_eq_true rfl) (wfy_River_widthOf hO (d := d + 2) _ _ _) (fun p142 => ?_)
          refine tq_goto dX0_widest_145 rfl ?_
          exact tq_ireturn dX0_widest_150 rfl rfl
      · refine tq_iconst (v := (-1)) dX0_widest_32 (by decide) ?_
        exact tq_ireturn dX0_widest_33 rfl rfl
abbrev Pfy_B_goTrips_b98 (G : ai_G) (d : Nat) (h0 : ai_H) (v0 : Nat) (v1 : Int32) (v2 : Int32) (v3 : Int32) (v4 : Nat) (v5 : Int32) : (Int32 × yS) ⊕ yS → Option ai_R → Prop := Sum.elim (fun (q : Int32 × yS) run => ∃ J : Unit, run = ai_run G (d + 3) 220 98 [some (.ref v0), some (.int v1), some (.int v2), some (.int v3), some (.ref v4), some (.int v5), some (.int q.1)] [] (yH q.2 h0)) (fun (q : yS) run => ∃ J : JV × JV × JV × JV × JV × JV × JV, run = ai_run G (d + 3) 220 171 [J.1.1, J.2.1.1, J.2.2.1.1, J.2.2.2.1.1, J.2.2.2.2.1.1, J.2.2.2.2.2.1.1, J.2.2.2.2.2.2.1] [] (yH q h0))
theorem Bfy_B_goTrips_b98 {G : ai_G} {d : Nat} {h0 : ai_H} (hO : hOld G h0) (v0 : Nat) (v1 : Int32) (v2 : Int32) (v3 : Int32) (v4 : Nat) (v5 : Int32) (b0 : Int32) (b1 : yS) (J : Unit) : Tj G (d + 3) 220 (Pfy_B_goTrips_b98 G d h0 v0 v1 v2 v3 v4 v5) (some (.inl (b0, b1))) 98 [some (.ref v0), some (.int v1), some (.int v2), some (.int v3), some (.ref v4), some (.int v5), some (.int b0)] [] (yH b1 h0) := tq_back J rfl rfl
theorem Efy_B_goTrips_b98 {G : ai_G} {d : Nat} {h0 : ai_H} (hO : hOld G h0) (v0 : Nat) (v1 : Int32) (v2 : Int32) (v3 : Int32) (v4 : Nat) (v5 : Int32) (b0 : yS) (J : JV × JV × JV × JV × JV × JV × JV) : Tj G (d + 3) 220 (Pfy_B_goTrips_b98 G d h0 v0 v1 v2 v3 v4 v5) (some (.inr b0)) 171 [J.1.1, J.2.1.1, J.2.2.1.1, J.2.2.2.1.1, J.2.2.2.2.1.1, J.2.2.2.2.2.1.1, J.2.2.2.2.2.2.1] [] (yH b0 h0) := tq_exit J rfl rfl
theorem wfy_B_goTrips_b98 {G : ai_G} {d : Nat} {h0 : ai_H} (hO : hOld G h0) {rec : yS → Nat → Int32 → Int32 → Int32 → Nat → Option (yS)} (hrec : ∀ (s : yS) (v0 : Nat) (v1 : Int32) (v2 : Int32) (v3 : Int32) (v4 : Nat) r, rec s v0 v1 v2 v3 v4 = some r → (PyV h0) r (ai_call G d 220 [.ref v0, .int v1, .int v2, .int v3, .ref v4] (yH s h0))) (v0 : Nat) (v1 : Int32) (v2 : Int32) (v3 : Int32) (v4 : Nat) (v5 : Int32) (q : Int32 × yS) (J : Unit) : Tj G (d + 3) 220 (Pfy_B_goTrips_b98 G d h0 v0 v1 v2 v3 v4 v5) (fy_B_goTrips_b98 G rec v0 v1 v2 v3 v4 v5 q) 98 [some (.ref v0), some (.int v1), some (.int v2), some (.int v3), some (.ref v4), some (.int v5), some (.int q.1)] [] (yH q.2 h0) := by
  unfold fy_B_goTrips_b98
  refine tq_iload dX0_goTrips_98 rfl ?_
  refine tq_iload_n dX0_goTrips_100 rfl ?_
  refine tq_icmp_gt dX0_goTrips_101 rfl ?_ ?_
  · exact Efy_B_goTrips_b98 hO _ _ _ _ _ _ _ (⟨some (.ref v0), rfl⟩, ⟨some (.int v1), rfl⟩, ⟨some (.int v2), rfl⟩, ⟨some (.int v3), rfl⟩, ⟨some (.ref v4), rfl⟩, ⟨some (.int v5), rfl⟩, ⟨some (.int q.1), rfl⟩)
  · refine tq_aload dX0_goTrips_104 rfl ?_
    refine tq_iload dX0_goTrips_106 rfl ?_
    refine ty_iald dX0_goTrips_108 (fun x108 => ?_)
    refine tq_iload dX0_goTrips_109 rfl ?_
    refine tq_iadd dX0_goTrips_111 ?_
    refine tq_iload_n dX0_goTrips_112 rfl ?_
    refine tq_icmp_le dX0_goTrips_113 rfl ?_ ?_
    · refine tq_aload_n dX0_goTrips_119 rfl ?_
      refine ty_gR dX0_goTrips_120 rfl rfl (fun x120 => ?_)
      refine tq_iload_n dX0_goTrips_123 rfl ?_
      refine tq_iload dX0_goTrips_124 rfl ?_
      refine ty_iast dX0_goTrips_126 (fun s126 => ?_)
      refine tq_aload dX0_goTrips_127 rfl ?_
      refine tq_iload dX0_goTrips_129 rfl ?_
      refine tq_dup2 dX0_goTrips_131 rfl rfl ?_
      refine ty_iald dX0_goTrips_132 (fun x132 => ?_)
      refine tq_iload dX0_goTrips_133 rfl ?_
      refine tq_iadd dX0_goTrips_135 ?_
      refine ty_iast dX0_goTrips_136 (fun s136 => ?_)
      refine tq_aload_n dX0_goTrips_137 rfl ?_
      refine tq_iload_n dX0_goTrips_138 rfl ?_
      refine tq_iload_n dX0_goTrips_139 rfl ?_
      refine tq_iconst (v := 1) dX0_goTrips_140 (by decide) ?_
      refine tq_iadd dX0_goTrips_141 ?_
      refine tq_iload_n dX0_goTrips_142 rfl ?_
      refine tq_iload dX0_goTrips_143 rfl ?_
      refine tq_iconst (v := 1) dX0_goTrips_145 (by decide) ?_
      refine tq_iadd dX0_goTrips_146 ?_
      refine tq_imax dX0_goTrips_147 rfl rfl (Nat.le_of_ble_eq_true rfl) ?_
      refine tq_aload dX0_goTrips_150 rfl ?_
      refine ty_v4_V dX0_goTrips_152 rfl rfl rfl (Nat.le_of_ble_eq_true rfl) (fun b hb => acm (hrec _ _ _ _ _ _ b hb) 3) (fun p152 => ?_)
      refine tq_aload dX0_goTrips_155 rfl ?_
      refine tq_iload dX0_goTrips_157 rfl ?_
      refine tq_dup2 dX0_goTrips_159 rfl rfl ?_
      refine ty_iald dX0_goTrips_160 (fun x160 => ?_)
      refine tq_iload dX0_goTrips_161 rfl ?_
      refine tq_isub dX0_goTrips_163 ?_
      refine ty_iast dX0_goTrips_164 (fun s164 => ?_)
      refine tq_iinc (v := (q.1 + 1)) (L' := [_, _, _, _, _, _, _]) dX0_goTrips_165 rfl (Nat.le_of_ble_eq_true rfl) rfl rfl ?_
      refine tq_goto dX0_goTrips_168 rfl ?_
      exact Bfy_B_goTrips_b98 hO _ _ _ _ _ _ _ _ ()
    · refine tq_goto dX0_goTrips_116 rfl ?_
      refine tq_iinc (v := (q.1 + 1)) (L' := [_, _, _, _, _, _, _]) dX0_goTrips_165 rfl (Nat.le_of_ble_eq_true rfl) rfl rfl ?_
      refine tq_goto dX0_goTrips_168 rfl ?_
      exact Bfy_B_goTrips_b98 hO _ _ _ _ _ _ _ _ ()
theorem Sfy_B_goTrips_b98 {G : ai_G} {d : Nat} {h0 : ai_H} (hO : hOld G h0) {α : Type} {P : α → Option ai_R → Prop} {rec : yS → Nat → Int32 → Int32 → Int32 → Nat → Option (yS)} (hrec : ∀ (s : yS) (v0 : Nat) (v1 : Int32) (v2 : Int32) (v3 : Int32) (v4 : Nat) r, rec s v0 v1 v2 v3 v4 = some r → (PyV h0) r (ai_call G d 220 [.ref v0, .int v1, .int v2, .int v3, .ref v4] (yH s h0))) (v0 : Nat) (v1 : Int32) (v2 : Int32) (v3 : Int32) (v4 : Nat) (v5 : Int32) (b0 : Int32) (b1 : yS) (J : Unit) {r : yS → Option α} (kk : ∀ (q : yS) (J : JV × JV × JV × JV × JV × JV × JV), Tj G (d + 3) 220 P (r q) 171 [J.1.1, J.2.1.1, J.2.2.1.1, J.2.2.2.1.1, J.2.2.2.2.1.1, J.2.2.2.2.2.1.1, J.2.2.2.2.2.2.1] [] (yH q h0)) : Tj G (d + 3) 220 P ((lp (fy_B_goTrips_b98 G rec v0 v1 v2 v3 v4 v5) (b0, b1)).bind r) 98 [some (.ref v0), some (.int v1), some (.int v2), some (.int v3), some (.ref v4), some (.int v5), some (.int b0)] [] (yH b1 h0) := tq_lp1 (J := J) (fun q J => wfy_B_goTrips_b98 hO hrec v0 v1 v2 v3 v4 v5 q J) rfl rfl kk
theorem wfy_B_goTrips_j16 {G : ai_G} {d : Nat} {h0 : ai_H} (hO : hOld G h0) (j5 : JV) (j6 : JV) {rec : yS → Nat → Int32 → Int32 → Int32 → Nat → Option (yS)} (hrec : ∀ (s : yS) (v0 : Nat) (v1 : Int32) (v2 : Int32) (v3 : Int32) (v4 : Nat) r, rec s v0 v1 v2 v3 v4 = some r → (PyV h0) r (ai_call G d 220 [.ref v0, .int v1, .int v2, .int v3, .ref v4] (yH s h0)))   (s : yS) (v0 : Nat) (v1 : Int32) (v2 : Int32) (v3 : Int32) (v4 : Nat): Tj G (d + 3) 220 (PyV h0) (fy_B_goTrips_j16 G rec s v0 v1 v2 v3 v4) 16 [some (.ref v0), some (.int v1), some (.int v2), some (.int v3), some (.ref v4), j5.1, j6.1] [] (yH s h0) := by
  unfold fy_B_goTrips_j16
  refine tq_iload_n dX0_goTrips_16 rfl ?_
  refine tq_aload_n dX0_goTrips_17 rfl ?_
  refine ty_v0_i dX0_goTrips_18 rfl rfl rfl (Nat.le_of_ble_eq_true rfl) (wfy_B_loads hO (d := d + 1) _ _) (fun p18 => ?_)
  refine tq_icmp_ne dX0_goTrips_21 rfl ?_ ?_
  · refine tq_aload_n dX0_goTrips_44 rfl ?_
    refine ty_gR dX0_goTrips_45 rfl rfl (fun x45 => ?_)
    refine tq_iload_n dX0_goTrips_48 rfl ?_
    refine tq_iconst (v := (-1)) dX0_goTrips_49 (by decide) ?_
    refine ty_iast dX0_goTrips_50 (fun s50 => ?_)
    refine tq_aload_n dX0_goTrips_51 rfl ?_
    refine ty_gR dX0_goTrips_52 rfl rfl (fun x52 => ?_)
    refine ty_gR dX0_goTrips_55 rfl rfl (fun x55 => ?_)
    refine tq_iload_n dX0_goTrips_58 rfl ?_
    refine ty_iald dX0_goTrips_59 (fun x59 => ?_)
    refine tq_iconst (v := (-1)) dX0_goTrips_60 (by decide) ?_
    refine tq_icmp_eq dX0_goTrips_61 rfl ?_ ?_
    · refine tq_aload_n dX0_goTrips_76 rfl ?_
      refine ty_gR dX0_goTrips_77 rfl rfl (fun x77 => ?_)
      refine ty_gR dX0_goTrips_80 rfl rfl (fun x80 => ?_)
      refine tq_iload_n dX0_goTrips_83 rfl ?_
      refine ty_v1_r dX0_goTrips_84 rfl rfl rfl (Nat.le_of_ble_eq_true rfl) (wfy_List_get hO (d := d) _ _ _) (fun p84 => ?_)
      refine ty_cast dX0_goTrips_87 rfl (fun _ => ?_)
      refine ty_gI dX0_goTrips_90 rfl rfl (fun x90 => ?_)
      refine tq_istore (L' := [_, _, _, _, _, _, _]) dX0_goTrips_93 (Nat.le_of_ble_eq_true rfl) rfl ?_
      refine tq_iconst (v := 0) dX0_goTrips_95 (by decide) ?_
      refine tq_istore (L' := [_, _, _, _, _, _, _]) dX0_goTrips_96 (Nat.le_of_ble_eq_true rfl) rfl ?_
      refine Sfy_B_goTrips_b98 hO hrec _ _ _ _ _ _ _ _ () (fun q98 J98 => ?_)
      exact tq_return dX0_goTrips_171 rfl rfl
    · refine tq_aload_n dX0_goTrips_64 rfl ?_
      refine tq_iload_n dX0_goTrips_65 rfl ?_
      refine tq_iload_n dX0_goTrips_66 rfl ?_
      refine tq_iconst (v := 1) dX0_goTrips_67 (by decide) ?_
      refine tq_iadd dX0_goTrips_68 ?_
      refine tq_iload_n dX0_goTrips_69 rfl ?_
      refine tq_aload dX0_goTrips_70 rfl ?_
      refine ty_v4_V dX0_goTrips_72 rfl rfl rfl (Nat.le_of_ble_eq_true rfl) (fun b hb => acm (hrec _ _ _ _ _ _ b hb) 3) (fun p72 => ?_)
      exact tq_return dX0_goTrips_75 rfl rfl
  · refine tq_aload_n dX0_goTrips_24 rfl ?_
    refine tq_iload_n dX0_goTrips_25 rfl ?_
    refine ty_wI dX0_goTrips_26 rfl rfl rfl (fun s26 => ?_)
    refine tq_aload_n dX0_goTrips_29 rfl ?_
    refine ty_gR dX0_goTrips_30 rfl rfl (fun x30 => ?_)
    refine tq_iconst (v := 0) dX0_goTrips_33 (by decide) ?_
    refine tq_aload_n dX0_goTrips_34 rfl ?_
    refine ty_gR dX0_goTrips_35 rfl rfl (fun x35 => ?_)
    refine tq_iconst (v := 0) dX0_goTrips_38 (by decide) ?_
    refine tq_iload_n dX0_goTrips_39 rfl ?_
    refine ty_copyI dX0_goTrips_40 rfl (Nat.le_of_ble_eq_true rfl) (fun s40 => ?_)
    exact tq_return dX0_goTrips_43 rfl rfl
theorem wfy_B_goTrips {G : ai_G} {d : Nat} {h0 : ai_H} (hO : hOld G h0) {rec : yS → Nat → Int32 → Int32 → Int32 → Nat → Option (yS)} (hrec : ∀ (s : yS) (v0 : Nat) (v1 : Int32) (v2 : Int32) (v3 : Int32) (v4 : Nat) r, rec s v0 v1 v2 v3 v4 = some r → (PyV h0) r (ai_call G d 220 [.ref v0, .int v1, .int v2, .int v3, .ref v4] (yH s h0))) (s : yS) (v0 : Nat) (v1 : Int32) (v2 : Int32) (v3 : Int32) (v4 : Nat) : ∀ r, fy_B_goTrips G rec s v0 v1 v2 v3 v4 = some r → (PyV h0) r (ai_call G (d + 4) 220 [.ref v0, .int v1, .int v2, .int v3, .ref v4] (yH s h0)) := by
  refine tq_meth (P := (PyV h0)) (d := (d + 3)) (Nat.le_of_ble_eq_true rfl) ?_
  show Tj G (d + 3) 220 (PyV h0) (fy_B_goTrips G rec s v0 v1 v2 v3 v4) 0 [some (.ref v0), some (.int v1), some (.int v2), some (.int v3), some (.ref v4), none, none] [] (yH s h0)
  unfold fy_B_goTrips
  refine tq_aload_n dX0_goTrips_0 rfl ?_
  refine ty_gI dX0_goTrips_1 rfl rfl (fun x1 => ?_)
  refine tq_if_lt dX0_goTrips_4 rfl ?_ ?_
  · exact wfy_B_goTrips_j16 hO ⟨none, rfl⟩ ⟨none, rfl⟩ hrec _ _ _ _ _ _
  · refine tq_iload_n dX0_goTrips_7 rfl ?_
    refine tq_aload_n dX0_goTrips_8 rfl ?_
    refine ty_gI dX0_goTrips_9 rfl rfl (fun x9 => ?_)
    refine tq_icmp_lt dX0_goTrips_12 rfl ?_ ?_
    · exact wfy_B_goTrips_j16 hO ⟨none, rfl⟩ ⟨none, rfl⟩ hrec _ _ _ _ _ _
    · exact tq_return dX0_goTrips_15 rfl rfl
theorem wfy_B_goTrips_N {G : ai_G} {d : Nat} {h0 : ai_H} (hO : hOld G h0) (n : Nat) : ∀ (s : yS) (v0 : Nat) (v1 : Int32) (v2 : Int32) (v3 : Int32) (v4 : Nat) r, fy_B_goTrips_N G n s v0 v1 v2 v3 v4 = some r → (PyV h0) r (ai_call G (d + 4 * n) 220 [.ref v0, .int v1, .int v2, .int v3, .ref v4] (yH s h0)) := by
  induction n with
  | zero => intro s v0 v1 v2 v3 v4 r h1; cases h1
  | succ n ih => intro s v0 v1 v2 v3 v4 r h1; exact wfy_B_goTrips hO (d := d + 4 * n) ih s v0 v1 v2 v3 v4 r h1
theorem wfy_B_trips {G : ai_G} {d : Nat} {h0 : ai_H} (hO : hOld G h0) (s : yS) (v0 : Nat) (v1 : Int32) : ∀ r, fy_B_trips G s v0 v1 = some r → (PyI h0) r (ai_call G (d + 37) 221 [.ref v0, .int v1] (yH s h0)) := by
  refine tq_meth (P := (PyI h0)) (d := (d + 36)) (Nat.le_of_ble_eq_true rfl) ?_
  show Tj G (d + 36) 221 (PyI h0) (fy_B_trips G s v0 v1) 0 [some (.ref v0), some (.int v1)] [] (yH s h0)
  unfold fy_B_trips
  refine tq_aload_n dX0_trips_0 rfl ?_
  refine tq_iconst (v := 0) dX0_trips_1 (by decide) ?_
  refine ty_wI dX0_trips_2 rfl rfl rfl (fun s2 => ?_)
  refine tq_aload_n dX0_trips_5 rfl ?_
  refine tq_iload_n dX0_trips_6 rfl ?_
  refine ty_v1_i dX0_trips_7 rfl rfl rfl (Nat.le_of_ble_eq_true rfl) (wfy_B_isBoard hO (d := d + 33) _ _ _) (fun p7 => ?_)
  refine tq_if_ne dX0_trips_10 rfl ?_ ?_
  · refine tq_aload_n dX0_trips_15 rfl ?_
    refine tq_iconst (v := (-1)) dX0_trips_16 (by decide) ?_
    refine ty_wI dX0_trips_17 rfl rfl rfl (fun s17 => ?_)
    refine tq_aload_n dX0_trips_20 rfl ?_
    refine tq_aload_n dX0_trips_21 rfl ?_
    refine ty_gR dX0_trips_22 rfl rfl (fun x22 => ?_)
    refine ty_gR dX0_trips_25 rfl rfl (fun x25 => ?_)
    refine tq_iload_n dX0_trips_28 rfl ?_
    refine ty_v1_r dX0_trips_29 rfl rfl rfl (Nat.le_of_ble_eq_true rfl) (wfy_List_get hO (d := d + 33) _ _ _) (fun p29 => ?_)
    refine ty_cast dX0_trips_32 rfl (fun _ => ?_)
    refine ty_gI dX0_trips_35 rfl rfl (fun x35 => ?_)
    refine tq_iconst (v := 0) dX0_trips_38 (by decide) ?_
    refine tq_iconst (v := 0) dX0_trips_39 (by decide) ?_
    refine tq_aload_n dX0_trips_40 rfl ?_
    refine ty_gR dX0_trips_41 rfl rfl (fun x41 => ?_)
    refine ty_v4_V dX0_trips_44 rfl rfl rfl (Nat.le_of_ble_eq_true rfl) (fun b hb => acm (wfy_B_goTrips_N hO 9 _ _ _ _ _ _ b hb) 0) (fun p44 => ?_)
    refine tq_aload_n dX0_trips_47 rfl ?_
    refine tq_aload_n dX0_trips_48 rfl ?_
    refine ty_gI dX0_trips_49 rfl rfl (fun x49 => ?_)
    refine tq_if_ge dX0_trips_52 rfl ?_ ?_
    · refine tq_aload_n dX0_trips_59 rfl ?_
      refine ty_v0_i dX0_trips_60 rfl rfl rfl (Nat.le_of_ble_eq_true rfl) (wfy_B_loads hO (d := d + 34) _ _) (fun p60 => ?_)
      refine ty_wI dX0_trips_63 rfl rfl rfl (fun s63 => ?_)
      refine tq_aload_n dX0_trips_66 rfl ?_
      refine ty_gI dX0_trips_67 rfl rfl (fun x67 => ?_)
      exact tq_ireturn dX0_trips_70 rfl rfl
    · refine tq_iconst (v := 0) dX0_trips_55 (by decide) ?_
      refine tq_goto dX0_trips_56 rfl ?_
      refine ty_wI dX0_trips_63 rfl rfl rfl (fun s63 => ?_)
      refine tq_aload_n dX0_trips_66 rfl ?_
      refine ty_gI dX0_trips_67 rfl rfl (fun x67 => ?_)
      exact tq_ireturn dX0_trips_70 rfl rfl
  · refine tq_iconst (v := (-1)) dX0_trips_13 (by decide) ?_
    exact tq_ireturn dX0_trips_14 rfl rfl
theorem wfy_J14_bitCount {G : ai_G} {d : Nat} {h : ai_H} (v0 : Int32) : ∀ r, fy_J14_bitCount v0 = some r → (Pi h) r (ai_call G (d + 1) 227 [.int v0] h) := by
  refine tq_meth (P := (Pi h)) (d := d) (Nat.le_of_ble_eq_true rfl) ?_
  show Tj G d 227 (Pi h) (fy_J14_bitCount v0) 0 [some (.int v0)] [] h
  unfold fy_J14_bitCount
  refine tq_iload_n dJ14_bitCount_0 rfl ?_
  refine tq_iload_n dJ14_bitCount_1 rfl ?_
  refine tq_iconst (v := 1) dJ14_bitCount_2 (by decide) ?_
  refine tq_iushr dJ14_bitCount_3 ?_
  refine tq_ldc_w (v := .int 1431655765) dJ14_bitCount_4 rfl rfl ?_
  refine tq_iand dJ14_bitCount_7 ?_
  refine tq_isub dJ14_bitCount_8 ?_
  refine tq_istore_n (L' := [_]) dJ14_bitCount_9 (Nat.le_of_ble_eq_true rfl) rfl ?_
  refine tq_iload_n dJ14_bitCount_10 rfl ?_
  refine tq_ldc_w (v := .int 858993459) dJ14_bitCount_11 rfl rfl ?_
  refine tq_iand dJ14_bitCount_14 ?_
  refine tq_iload_n dJ14_bitCount_15 rfl ?_
  refine tq_iconst (v := 2) dJ14_bitCount_16 (by decide) ?_
  refine tq_iushr dJ14_bitCount_17 ?_
  refine tq_ldc_w (v := .int 858993459) dJ14_bitCount_18 rfl rfl ?_
  refine tq_iand dJ14_bitCount_21 ?_
  refine tq_iadd dJ14_bitCount_22 ?_
  refine tq_istore_n (L' := [_]) dJ14_bitCount_23 (Nat.le_of_ble_eq_true rfl) rfl ?_
  refine tq_iload_n dJ14_bitCount_24 rfl ?_
  refine tq_iload_n dJ14_bitCount_25 rfl ?_
  refine tq_iconst (v := 4) dJ14_bitCount_26 (by decide) ?_
  refine tq_iushr dJ14_bitCount_27 ?_
  refine tq_iadd dJ14_bitCount_28 ?_
  refine tq_ldc_w (v := .int 252645135) dJ14_bitCount_29 rfl rfl ?_
  refine tq_iand dJ14_bitCount_32 ?_
  refine tq_istore_n (L' := [_]) dJ14_bitCount_33 (Nat.le_of_ble_eq_true rfl) rfl ?_
  refine tq_iload_n dJ14_bitCount_34 rfl ?_
  refine tq_iload_n dJ14_bitCount_35 rfl ?_
  refine tq_bipush (v := 8) dJ14_bitCount_36 (by decide) ?_
  refine tq_iushr dJ14_bitCount_38 ?_
  refine tq_iadd dJ14_bitCount_39 ?_
  refine tq_istore_n (L' := [_]) dJ14_bitCount_40 (Nat.le_of_ble_eq_true rfl) rfl ?_
  refine tq_iload_n dJ14_bitCount_41 rfl ?_
  refine tq_iload_n dJ14_bitCount_42 rfl ?_
  refine tq_bipush (v := 16) dJ14_bitCount_43 (by decide) ?_
  refine tq_iushr dJ14_bitCount_45 ?_
  refine tq_iadd dJ14_bitCount_46 ?_
  refine tq_istore_n (L' := [_]) dJ14_bitCount_47 (Nat.le_of_ble_eq_true rfl) rfl ?_
  refine tq_iload_n dJ14_bitCount_48 rfl ?_
  refine tq_bipush (v := 63) dJ14_bitCount_49 (by decide) ?_
  refine tq_iand dJ14_bitCount_51 ?_
  exact tq_ireturn dJ14_bitCount_52 rfl rfl
abbrev Pfy_B_goStow_b102 (G : ai_G) (d : Nat) (h0 : ai_H) (v0 : Nat) (v1 : Int32) (v2 : Int32) (v3 : Nat) (v4 : Int32) : (Int32 × yS) ⊕ yS → Option ai_R → Prop := Sum.elim (fun (q : Int32 × yS) run => ∃ J : Unit, run = ai_run G (d + 6) 228 102 [some (.ref v0), some (.int v1), some (.int v2), some (.ref v3), some (.int v4), some (.int q.1)] [] (yH q.2 h0)) (fun (q : yS) run => ∃ J : JV × JV × JV × JV × JV × JV, run = ai_run G (d + 6) 228 189 [J.1.1, J.2.1.1, J.2.2.1.1, J.2.2.2.1.1, J.2.2.2.2.1.1, J.2.2.2.2.2.1] [] (yH q h0))
theorem Bfy_B_goStow_b102 {G : ai_G} {d : Nat} {h0 : ai_H} (hO : hOld G h0) (v0 : Nat) (v1 : Int32) (v2 : Int32) (v3 : Nat) (v4 : Int32) (b0 : Int32) (b1 : yS) (J : Unit) : Tj G (d + 6) 228 (Pfy_B_goStow_b102 G d h0 v0 v1 v2 v3 v4) (some (.inl (b0, b1))) 102 [some (.ref v0), some (.int v1), some (.int v2), some (.ref v3), some (.int v4), some (.int b0)] [] (yH b1 h0) := tq_back J rfl rfl
theorem Efy_B_goStow_b102 {G : ai_G} {d : Nat} {h0 : ai_H} (hO : hOld G h0) (v0 : Nat) (v1 : Int32) (v2 : Int32) (v3 : Nat) (v4 : Int32) (b0 : yS) (J : JV × JV × JV × JV × JV × JV) : Tj G (d + 6) 228 (Pfy_B_goStow_b102 G d h0 v0 v1 v2 v3 v4) (some (.inr b0)) 189 [J.1.1, J.2.1.1, J.2.2.1.1, J.2.2.2.1.1, J.2.2.2.2.1.1, J.2.2.2.2.2.1] [] (yH b0 h0) := tq_exit J rfl rfl
theorem wfy_B_goStow_b102 {G : ai_G} {d : Nat} {h0 : ai_H} (hO : hOld G h0) {rec : yS → Nat → Int32 → Int32 → Nat → Option (yS)} (hrec : ∀ (s : yS) (v0 : Nat) (v1 : Int32) (v2 : Int32) (v3 : Nat) r, rec s v0 v1 v2 v3 = some r → (PyV h0) r (ai_call G d 228 [.ref v0, .int v1, .int v2, .ref v3] (yH s h0))) (v0 : Nat) (v1 : Int32) (v2 : Int32) (v3 : Nat) (v4 : Int32) (q : Int32 × yS) (J : Unit) : Tj G (d + 6) 228 (Pfy_B_goStow_b102 G d h0 v0 v1 v2 v3 v4) (fy_B_goStow_b102 G rec v0 v1 v2 v3 v4 q) 102 [some (.ref v0), some (.int v1), some (.int v2), some (.ref v3), some (.int v4), some (.int q.1)] [] (yH q.2 h0) := by
  unfold fy_B_goStow_b102
  refine tq_iload dX0_goStow_102 rfl ?_
  refine tq_aload_n dX0_goStow_104 rfl ?_
  refine ty_v0_i dX0_goStow_105 rfl rfl rfl (Nat.le_of_ble_eq_true rfl) (wfy_B_boards hO (d := d + 4) _ _) (fun p105 => ?_)
  refine tq_icmp_ge dX0_goStow_108 rfl ?_ ?_
  · exact Efy_B_goStow_b102 hO _ _ _ _ _ _ (⟨some (.ref v0), rfl⟩, ⟨some (.int v1), rfl⟩, ⟨some (.int v2), rfl⟩, ⟨some (.ref v3), rfl⟩, ⟨some (.int v4), rfl⟩, ⟨some (.int q.1), rfl⟩)
  · refine tq_aload_n dX0_goStow_111 rfl ?_
    refine ty_gR dX0_goStow_112 rfl rfl (fun x112 => ?_)
    refine ty_gR dX0_goStow_115 rfl rfl (fun x115 => ?_)
    refine tq_iload dX0_goStow_118 rfl ?_
    refine ty_iald dX0_goStow_120 (fun x120 => ?_)
    refine tq_if_ne dX0_goStow_121 rfl ?_ ?_
    · refine tq_iinc (v := (q.1 + 1)) (L' := [_, _, _, _, _, _]) dX0_goStow_183 rfl (Nat.le_of_ble_eq_true rfl) rfl rfl ?_
      refine tq_goto dX0_goStow_186 rfl ?_
      exact Bfy_B_goStow_b102 hO _ _ _ _ _ _ _ ()
    · refine tq_aload_n dX0_goStow_124 rfl ?_
      refine tq_iload dX0_goStow_125 rfl ?_
      refine tq_aload_n dX0_goStow_127 rfl ?_
      refine tq_iload dX0_goStow_128 rfl ?_
      refine ty_iald dX0_goStow_130 (fun x130 => ?_)
      refine tq_iload dX0_goStow_131 rfl ?_
      refine tq_iadd dX0_goStow_133 ?_
      refine ty_v2_i dX0_goStow_134 rfl rfl rfl (Nat.le_of_ble_eq_true rfl) (wfy_B_liesFlat hO (d := d) _ _ _ _) (fun p134 => ?_)
      refine tq_if_ne dX0_goStow_137 rfl ?_ ?_
      · refine tq_aload_n dX0_goStow_143 rfl ?_
        refine ty_gR dX0_goStow_144 rfl rfl (fun x144 => ?_)
        refine tq_iload_n dX0_goStow_147 rfl ?_
        refine tq_iload dX0_goStow_148 rfl ?_
        refine ty_iast dX0_goStow_150 (fun s150 => ?_)
        refine tq_aload_n dX0_goStow_151 rfl ?_
        refine tq_iload dX0_goStow_152 rfl ?_
        refine tq_dup2 dX0_goStow_154 rfl rfl ?_
        refine ty_iald dX0_goStow_155 (fun x155 => ?_)
        refine tq_iload dX0_goStow_156 rfl ?_
        refine tq_iadd dX0_goStow_158 ?_
        refine ty_iast dX0_goStow_159 (fun s159 => ?_)
        refine tq_aload_n dX0_goStow_160 rfl ?_
        refine tq_iload_n dX0_goStow_161 rfl ?_
        refine tq_iconst (v := 1) dX0_goStow_162 (by decide) ?_
        refine tq_iadd dX0_goStow_163 ?_
        refine tq_iload_n dX0_goStow_164 rfl ?_
        refine tq_iconst (v := 1) dX0_goStow_165 (by decide) ?_
        refine tq_iload dX0_goStow_166 rfl ?_
        refine tq_ishl dX0_goStow_168 ?_
        refine tq_ior dX0_goStow_169 ?_
        refine tq_aload_n dX0_goStow_170 rfl ?_
        refine ty_v3_V dX0_goStow_171 rfl rfl rfl (Nat.le_of_ble_eq_true rfl) (fun b hb => acm (hrec _ _ _ _ _ b hb) 6) (fun p171 => ?_)
        refine tq_aload_n dX0_goStow_174 rfl ?_
        refine tq_iload dX0_goStow_175 rfl ?_
        refine tq_dup2 dX0_goStow_177 rfl rfl ?_
        refine ty_iald dX0_goStow_178 (fun x178 => ?_)
        refine tq_iload dX0_goStow_179 rfl ?_
        refine tq_isub dX0_goStow_181 ?_
        refine ty_iast dX0_goStow_182 (fun s182 => ?_)
        refine tq_iinc (v := (q.1 + 1)) (L' := [_, _, _, _, _, _]) dX0_goStow_183 rfl (Nat.le_of_ble_eq_true rfl) rfl rfl ?_
        refine tq_goto dX0_goStow_186 rfl ?_
        exact Bfy_B_goStow_b102 hO _ _ _ _ _ _ _ ()
      · refine tq_goto dX0_goStow_140 rfl ?_
        refine tq_iinc (v := (q.1 + 1)) (L' := [_, _, _, _, _, _]) dX0_goStow_183 rfl (Nat.le_of_ble_eq_true rfl) rfl rfl ?_
        refine tq_goto dX0_goStow_186 rfl ?_
        exact Bfy_B_goStow_b102 hO _ _ _ _ _ _ _ ()
theorem Sfy_B_goStow_b102 {G : ai_G} {d : Nat} {h0 : ai_H} (hO : hOld G h0) {α : Type} {P : α → Option ai_R → Prop} {rec : yS → Nat → Int32 → Int32 → Nat → Option (yS)} (hrec : ∀ (s : yS) (v0 : Nat) (v1 : Int32) (v2 : Int32) (v3 : Nat) r, rec s v0 v1 v2 v3 = some r → (PyV h0) r (ai_call G d 228 [.ref v0, .int v1, .int v2, .ref v3] (yH s h0))) (v0 : Nat) (v1 : Int32) (v2 : Int32) (v3 : Nat) (v4 : Int32) (b0 : Int32) (b1 : yS) (J : Unit) {r : yS → Option α} (kk : ∀ (q : yS) (J : JV × JV × JV × JV × JV × JV), Tj G (d + 6) 228 P (r q) 189 [J.1.1, J.2.1.1, J.2.2.1.1, J.2.2.2.1.1, J.2.2.2.2.1.1, J.2.2.2.2.2.1] [] (yH q h0)) : Tj G (d + 6) 228 P ((lp (fy_B_goStow_b102 G rec v0 v1 v2 v3 v4) (b0, b1)).bind r) 102 [some (.ref v0), some (.int v1), some (.int v2), some (.ref v3), some (.int v4), some (.int b0)] [] (yH b1 h0) := tq_lp1 (J := J) (fun q J => wfy_B_goStow_b102 hO hrec v0 v1 v2 v3 v4 q J) rfl rfl kk
theorem wfy_B_goStow_j19 {G : ai_G} {d : Nat} {h0 : ai_H} (hO : hOld G h0) (j4 : JV) (j5 : JV) {rec : yS → Nat → Int32 → Int32 → Nat → Option (yS)} (hrec : ∀ (s : yS) (v0 : Nat) (v1 : Int32) (v2 : Int32) (v3 : Nat) r, rec s v0 v1 v2 v3 = some r → (PyV h0) r (ai_call G d 228 [.ref v0, .int v1, .int v2, .ref v3] (yH s h0)))   (s : yS) (v0 : Nat) (v1 : Int32) (v2 : Int32) (v3 : Nat): Tj G (d + 6) 228 (PyV h0) (fy_B_goStow_j19 G rec s v0 v1 v2 v3) 19 [some (.ref v0), some (.int v1), some (.int v2), some (.ref v3), j4.1, j5.1] [] (yH s h0) := by
  unfold fy_B_goStow_j19
  refine tq_iload_n dX0_goStow_19 rfl ?_
  refine tq_aload_n dX0_goStow_20 rfl ?_
  refine ty_v0_i dX0_goStow_21 rfl rfl rfl (Nat.le_of_ble_eq_true rfl) (wfy_B_loads hO (d := d + 4) _ _) (fun p21 => ?_)
  refine tq_icmp_ne dX0_goStow_24 rfl ?_ ?_
  · refine tq_aload_n dX0_goStow_50 rfl ?_
    refine ty_gR dX0_goStow_51 rfl rfl (fun x51 => ?_)
    refine tq_iload_n dX0_goStow_54 rfl ?_
    refine tq_iconst (v := (-1)) dX0_goStow_55 (by decide) ?_
    refine ty_iast dX0_goStow_56 (fun s56 => ?_)
    refine tq_aload_n dX0_goStow_57 rfl ?_
    refine ty_gR dX0_goStow_58 rfl rfl (fun x58 => ?_)
    refine ty_gR dX0_goStow_61 rfl rfl (fun x61 => ?_)
    refine tq_iload_n dX0_goStow_64 rfl ?_
    refine ty_iald dX0_goStow_65 (fun x65 => ?_)
    refine tq_iconst (v := (-1)) dX0_goStow_66 (by decide) ?_
    refine tq_icmp_eq dX0_goStow_67 rfl ?_ ?_
    · refine tq_aload_n dX0_goStow_80 rfl ?_
      refine ty_gR dX0_goStow_81 rfl rfl (fun x81 => ?_)
      refine ty_gR dX0_goStow_84 rfl rfl (fun x84 => ?_)
      refine tq_iload_n dX0_goStow_87 rfl ?_
      refine ty_v1_r dX0_goStow_88 rfl rfl rfl (Nat.le_of_ble_eq_true rfl) (wfy_List_get hO (d := d + 3) _ _ _) (fun p88 => ?_)
      refine ty_cast dX0_goStow_91 rfl (fun _ => ?_)
      refine ty_gI dX0_goStow_94 rfl rfl (fun x94 => ?_)
      refine tq_istore (L' := [_, _, _, _, _, _]) dX0_goStow_97 (Nat.le_of_ble_eq_true rfl) rfl ?_
      refine tq_iconst (v := 0) dX0_goStow_99 (by decide) ?_
      refine tq_istore (L' := [_, _, _, _, _, _]) dX0_goStow_100 (Nat.le_of_ble_eq_true rfl) rfl ?_
      refine Sfy_B_goStow_b102 hO hrec _ _ _ _ _ _ _ () (fun q102 J102 => ?_)
      exact tq_return dX0_goStow_189 rfl rfl
    · refine tq_aload_n dX0_goStow_70 rfl ?_
      refine tq_iload_n dX0_goStow_71 rfl ?_
      refine tq_iconst (v := 1) dX0_goStow_72 (by decide) ?_
      refine tq_iadd dX0_goStow_73 ?_
      refine tq_iload_n dX0_goStow_74 rfl ?_
      refine tq_aload_n dX0_goStow_75 rfl ?_
      refine ty_v3_V dX0_goStow_76 rfl rfl rfl (Nat.le_of_ble_eq_true rfl) (fun b hb => acm (hrec _ _ _ _ _ b hb) 6) (fun p76 => ?_)
      exact tq_return dX0_goStow_79 rfl rfl
  · refine tq_aload_n dX0_goStow_27 rfl ?_
    refine tq_iload_n dX0_goStow_28 rfl ?_
    refine ty_s1_pi dX0_goStow_29 rfl rfl rfl (Nat.le_of_ble_eq_true rfl) (wfy_J14_bitCount (d := d + 5) _) (fun p29 => ?_)
    refine ty_wI dX0_goStow_32 rfl rfl rfl (fun s32 => ?_)
    refine tq_aload_n dX0_goStow_35 rfl ?_
    refine ty_gR dX0_goStow_36 rfl rfl (fun x36 => ?_)
    refine tq_iconst (v := 0) dX0_goStow_39 (by decide) ?_
    refine tq_aload_n dX0_goStow_40 rfl ?_
    refine ty_gR dX0_goStow_41 rfl rfl (fun x41 => ?_)
    refine tq_iconst (v := 0) dX0_goStow_44 (by decide) ?_
    refine tq_iload_n dX0_goStow_45 rfl ?_
    refine ty_copyI dX0_goStow_46 rfl (Nat.le_of_ble_eq_true rfl) (fun s46 => ?_)
    exact tq_return dX0_goStow_49 rfl rfl
theorem wfy_B_goStow {G : ai_G} {d : Nat} {h0 : ai_H} (hO : hOld G h0) {rec : yS → Nat → Int32 → Int32 → Nat → Option (yS)} (hrec : ∀ (s : yS) (v0 : Nat) (v1 : Int32) (v2 : Int32) (v3 : Nat) r, rec s v0 v1 v2 v3 = some r → (PyV h0) r (ai_call G d 228 [.ref v0, .int v1, .int v2, .ref v3] (yH s h0))) (s : yS) (v0 : Nat) (v1 : Int32) (v2 : Int32) (v3 : Nat) : ∀ r, fy_B_goStow G rec s v0 v1 v2 v3 = some r → (PyV h0) r (ai_call G (d + 7) 228 [.ref v0, .int v1, .int v2, .ref v3] (yH s h0)) := by
  refine tq_meth (P := (PyV h0)) (d := (d + 6)) (Nat.le_of_ble_eq_true rfl) ?_
  show Tj G (d + 6) 228 (PyV h0) (fy_B_goStow G rec s v0 v1 v2 v3) 0 [some (.ref v0), some (.int v1), some (.int v2), some (.ref v3), none, none] [] (yH s h0)
  unfold fy_B_goStow
  refine tq_aload_n dX0_goStow_0 rfl ?_
  refine ty_gI dX0_goStow_1 rfl rfl (fun x1 => ?_)
  refine tq_if_lt dX0_goStow_4 rfl ?_ ?_
  · exact wfy_B_goStow_j19 hO ⟨none, rfl⟩ ⟨none, rfl⟩ hrec _ _ _ _ _
  · refine tq_iload_n dX0_goStow_7 rfl ?_
    refine ty_s1_pi dX0_goStow_8 rfl rfl rfl (Nat.le_of_ble_eq_true rfl) (wfy_J14_bitCount (d := d + 5) _) (fun p8 => ?_)
    refine tq_aload_n dX0_goStow_11 rfl ?_
    refine ty_gI dX0_goStow_12 rfl rfl (fun x12 => ?_)
    refine tq_icmp_lt dX0_goStow_15 rfl ?_ ?_
    · exact wfy_B_goStow_j19 hO ⟨none, rfl⟩ ⟨none, rfl⟩ hrec _ _ _ _ _
    · exact tq_return dX0_goStow_18 rfl rfl
theorem wfy_B_goStow_N {G : ai_G} {d : Nat} {h0 : ai_H} (hO : hOld G h0) (n : Nat) : ∀ (s : yS) (v0 : Nat) (v1 : Int32) (v2 : Int32) (v3 : Nat) r, fy_B_goStow_N G n s v0 v1 v2 v3 = some r → (PyV h0) r (ai_call G (d + 7 * n) 228 [.ref v0, .int v1, .int v2, .ref v3] (yH s h0)) := by
  induction n with
  | zero => intro s v0 v1 v2 v3 r h1; cases h1
  | succ n ih => intro s v0 v1 v2 v3 r h1; exact wfy_B_goStow hO (d := d + 7 * n) ih s v0 v1 v2 v3 r h1
theorem wfy_B_stowing {G : ai_G} {d : Nat} {h0 : ai_H} (hO : hOld G h0) (s : yS) (v0 : Nat) : ∀ r, fy_B_stowing G s v0 = some r → (PyI h0) r (ai_call G (d + 64) 229 [.ref v0] (yH s h0)) := by
  refine tq_meth (P := (PyI h0)) (d := (d + 63)) (Nat.le_of_ble_eq_true rfl) ?_
  show Tj G (d + 63) 229 (PyI h0) (fy_B_stowing G s v0) 0 [some (.ref v0)] [] (yH s h0)
  unfold fy_B_stowing
  refine tq_aload_n dX0_stowing_0 rfl ?_
  refine tq_iconst (v := (-1)) dX0_stowing_1 (by decide) ?_
  refine ty_wI dX0_stowing_2 rfl rfl rfl (fun s2 => ?_)
  refine tq_aload_n dX0_stowing_5 rfl ?_
  refine tq_iconst (v := 0) dX0_stowing_6 (by decide) ?_
  refine tq_iconst (v := 0) dX0_stowing_7 (by decide) ?_
  refine tq_aload_n dX0_stowing_8 rfl ?_
  refine ty_gR dX0_stowing_9 rfl rfl (fun x9 => ?_)
  refine ty_v3_V dX0_stowing_12 rfl rfl rfl (Nat.le_of_ble_eq_true rfl) (fun b hb => acm (wfy_B_goStow_N hO 9 _ _ _ _ _ b hb) 0) (fun p12 => ?_)
  refine tq_aload_n dX0_stowing_15 rfl ?_
  refine tq_aload_n dX0_stowing_16 rfl ?_
  refine ty_gI dX0_stowing_17 rfl rfl (fun x17 => ?_)
  refine tq_if_ge dX0_stowing_20 rfl ?_ ?_
  · refine tq_aload_n dX0_stowing_27 rfl ?_
    refine ty_v0_i dX0_stowing_28 rfl rfl rfl (Nat.le_of_ble_eq_true rfl) (wfy_B_loads hO (d := d + 61) _ _) (fun p28 => ?_)
    refine ty_wI dX0_stowing_31 rfl rfl rfl (fun s31 => ?_)
    refine tq_aload_n dX0_stowing_34 rfl ?_
    refine ty_gI dX0_stowing_35 rfl rfl (fun x35 => ?_)
    exact tq_ireturn dX0_stowing_38 rfl rfl
  · refine tq_iconst (v := 0) dX0_stowing_23 (by decide) ?_
    refine tq_goto dX0_stowing_24 rfl ?_
    refine ty_wI dX0_stowing_31 rfl rfl rfl (fun s31 => ?_)
    refine tq_aload_n dX0_stowing_34 rfl ?_
    refine ty_gI dX0_stowing_35 rfl rfl (fun x35 => ?_)
    exact tq_ireturn dX0_stowing_38 rfl rfl
abbrev Pfy_B_areSideBySide_b2 (G : ai_G) (d : Nat) (h0 : ai_H) (s : yS) (v0 : Nat) : Int32 ⊕ (Unit ⊕ Int32) → Option ai_R → Prop := Sum.elim (fun (q : Int32) run => ∃ J : Unit, run = ai_run G d 233 2 [some (.ref v0), some (.int q)] [] (yH s h0)) (Sum.elim (fun (q : Unit) run => ∃ J : JV × JV, run = ai_run G d 233 44 [J.1.1, J.2.1] [] (yH s h0)) (Pi (yH s h0)))
theorem Bfy_B_areSideBySide_b2 {G : ai_G} {d : Nat} {h0 : ai_H} (hO : hOld G h0) (s : yS) (v0 : Nat) (b0 : Int32) (J : Unit) : Tj G d 233 (Pfy_B_areSideBySide_b2 G d h0 s v0) (some (.inl b0)) 2 [some (.ref v0), some (.int b0)] [] (yH s h0) := tq_back J rfl rfl
theorem Efy_B_areSideBySide_b2 {G : ai_G} {d : Nat} {h0 : ai_H} (hO : hOld G h0) (s : yS) (v0 : Nat)  (J : JV × JV) : Tj G d 233 (Pfy_B_areSideBySide_b2 G d h0 s v0) (some (.inr (.inl ()))) 44 [J.1.1, J.2.1] [] (yH s h0) := tq_exit2 J rfl rfl
theorem wfy_B_areSideBySide_b2 {G : ai_G} {d : Nat} {h0 : ai_H} (hO : hOld G h0) (s : yS) (v0 : Nat) (q : Int32) (J : Unit) : Tj G d 233 (Pfy_B_areSideBySide_b2 G d h0 s v0) (fy_B_areSideBySide_b2 G s v0 q) 2 [some (.ref v0), some (.int q)] [] (yH s h0) := by
  unfold fy_B_areSideBySide_b2
  refine tq_iload_n dX0_areSideBySide_2 rfl ?_
  refine tq_aload_n dX0_areSideBySide_3 rfl ?_
  refine ty_gR dX0_areSideBySide_4 rfl rfl (fun x4 => ?_)
  refine ty_alen hO dX0_areSideBySide_7 (fun x7 => ?_)
  refine tq_icmp_ge dX0_areSideBySide_8 rfl ?_ ?_
  · exact Efy_B_areSideBySide_b2 hO _ _ (⟨some (.ref v0), rfl⟩, ⟨some (.int q), rfl⟩)
  · refine tq_aload_n dX0_areSideBySide_11 rfl ?_
    refine ty_gR dX0_areSideBySide_12 rfl rfl (fun x12 => ?_)
    refine tq_iload_n dX0_areSideBySide_15 rfl ?_
    refine ty_bald hO dX0_areSideBySide_16 (fun x16 => ?_)
    refine tq_if_eq dX0_areSideBySide_17 rfl ?_ ?_
    · refine tq_iinc (v := (q + 1)) (L' := [_, _]) dX0_areSideBySide_38 rfl (Nat.le_of_ble_eq_true rfl) rfl rfl ?_
      refine tq_goto dX0_areSideBySide_41 rfl ?_
      exact Bfy_B_areSideBySide_b2 hO _ _ _ ()
    · refine tq_iload_n dX0_areSideBySide_20 rfl ?_
      refine tq_bipush (v := 8) dX0_areSideBySide_21 (by decide) ?_
      refine tq_idiv dX0_areSideBySide_23 (fun x23 => ?_)
      refine tq_iload_n dX0_areSideBySide_24 rfl ?_
      refine tq_bipush (v := 8) dX0_areSideBySide_25 (by decide) ?_
      refine tq_irem dX0_areSideBySide_27 (fun x27 => ?_)
      refine tq_isub dX0_areSideBySide_28 ?_
      refine tq_iabs dX0_areSideBySide_29 rfl rfl rfl rfl (Nat.le_of_ble_eq_true rfl) ?_
      refine tq_iconst (v := 1) dX0_areSideBySide_32 (by decide) ?_
      refine tq_icmp_ne dX0_areSideBySide_33 rfl ?_ ?_
      · refine tq_iinc (v := (q + 1)) (L' := [_, _]) dX0_areSideBySide_38 rfl (Nat.le_of_ble_eq_true rfl) rfl rfl ?_
        refine tq_goto dX0_areSideBySide_41 rfl ?_
        exact Bfy_B_areSideBySide_b2 hO _ _ _ ()
      · refine tq_iconst (v := 1) dX0_areSideBySide_36 (by decide) ?_
        exact tq_ireturn dX0_areSideBySide_37 (by decide) rfl
theorem Sfy_B_areSideBySide_b2 {G : ai_G} {d : Nat} {h0 : ai_H} (hO : hOld G h0) {α : Type} {P : α → Option ai_R → Prop} (s : yS) (v0 : Nat) (b0 : Int32) (J : Unit) {r : Unit → Option α} {r2 : Int32 → Option α} (k2 : ∀ v run, (Pi (yH s h0)) v run → ∀ a, r2 v = some a → P a run) (kk : ∀ (q : Unit) (J : JV × JV), Tj G d 233 P (r q) 44 [J.1.1, J.2.1] [] (yH s h0)) : Tj G d 233 P ((lp (fy_B_areSideBySide_b2 G s v0) b0).bind (Sum.elim r r2)) 2 [some (.ref v0), some (.int b0)] [] (yH s h0) := tq_lp2 (J := J) (fun q J => wfy_B_areSideBySide_b2 hO s v0 q J) rfl rfl k2 kk
theorem wfy_B_areSideBySide {G : ai_G} {d : Nat} {h0 : ai_H} (hO : hOld G h0) (s : yS) (v0 : Nat) : ∀ r, fy_B_areSideBySide G s v0 = some r → (Pi (yH s h0)) r (ai_call G (d + 1) 233 [.ref v0] (yH s h0)) := by
  refine tq_meth (P := (Pi (yH s h0))) (d := d) (Nat.le_of_ble_eq_true rfl) ?_
  show Tj G d 233 (Pi (yH s h0)) (fy_B_areSideBySide G s v0) 0 [some (.ref v0), none] [] (yH s h0)
  unfold fy_B_areSideBySide
  refine tq_iconst (v := 0) dX0_areSideBySide_0 (by decide) ?_
  refine tq_istore_n (L' := [_, _]) dX0_areSideBySide_1 (Nat.le_of_ble_eq_true rfl) rfl ?_
  refine Sfy_B_areSideBySide_b2 hO _ _ _ () (fun v run hv a ha => by cases ha; exact hv) (fun q2 J2 => ?_)
  refine tq_iconst (v := 0) dX0_areSideBySide_44 (by decide) ?_
  exact tq_ireturn dX0_areSideBySide_45 (by decide) rfl
theorem wfy_B_columnBy {G : ai_G} {d : Nat} {h0 : ai_H} (hO : hOld G h0) (s : yS) (v0 : Nat) (v1 : Int32) (v2 : Int32) (v3 : Int32) : ∀ r, fy_B_columnBy G s v0 v1 v2 v3 = some r → (Pi (yH s h0)) r (ai_call G (d + 2) 234 [.ref v0, .int v1, .int v2, .int v3] (yH s h0)) := by
  refine tq_meth (P := (Pi (yH s h0))) (d := (d + 1)) (Nat.le_of_ble_eq_true rfl) ?_
  show Tj G (d + 1) 234 (Pi (yH s h0)) (fy_B_columnBy G s v0 v1 v2 v3) 0 [some (.ref v0), some (.int v1), some (.int v2), some (.int v3), none] [] (yH s h0)
  unfold fy_B_columnBy
  refine tq_iload_n dX0_columnBy_0 rfl ?_
  refine tq_iload_n dX0_columnBy_1 rfl ?_
  refine tq_iadd dX0_columnBy_2 ?_
  refine tq_aload_n dX0_columnBy_3 rfl ?_
  refine ty_gR dX0_columnBy_4 rfl rfl (fun x4 => ?_)
  refine ty_gR dX0_columnBy_7 rfl rfl (fun x7 => ?_)
  refine tq_aload_n dX0_columnBy_10 rfl ?_
  refine ty_gR dX0_columnBy_11 rfl rfl (fun x11 => ?_)
  refine tq_iload_n dX0_columnBy_14 rfl ?_
  refine tq_iload_n dX0_columnBy_15 rfl ?_
  refine ty_v2_i dX0_columnBy_16 rfl rfl rfl (Nat.le_of_ble_eq_true rfl) (wfy_River_cell hO (d := d) _ _ _ _) (fun p16 => ?_)
  refine ty_iald dX0_columnBy_19 (fun x19 => ?_)
  refine tq_iadd dX0_columnBy_20 ?_
  refine tq_aload_n dX0_columnBy_21 rfl ?_
  refine ty_gR dX0_columnBy_22 rfl rfl (fun x22 => ?_)
  refine ty_gI dX0_columnBy_25 rfl rfl (fun x25 => ?_)
  refine tq_iconst (v := 1) dX0_columnBy_28 (by decide) ?_
  refine tq_isub dX0_columnBy_29 ?_
  refine ty_s2_pi dX0_columnBy_30 rfl rfl rfl (Nat.le_of_ble_eq_true rfl) (wfy_B_within (d := d) _ _) (fun p30 => ?_)
  refine tq_istore (L' := [_, _, _, _, _]) dX0_columnBy_33 (Nat.le_of_ble_eq_true rfl) rfl ?_
  refine tq_aload_n dX0_columnBy_35 rfl ?_
  refine ty_gR dX0_columnBy_36 rfl rfl (fun x36 => ?_)
  refine ty_gR dX0_columnBy_39 rfl rfl (fun x39 => ?_)
  refine tq_aload_n dX0_columnBy_42 rfl ?_
  refine ty_gR dX0_columnBy_43 rfl rfl (fun x43 => ?_)
  refine tq_iload dX0_columnBy_46 rfl ?_
  refine tq_iload_n dX0_columnBy_48 rfl ?_
  refine tq_iconst (v := 1) dX0_columnBy_49 (by decide) ?_
  refine tq_iadd dX0_columnBy_50 ?_
  refine ty_v2_i dX0_columnBy_51 rfl rfl rfl (Nat.le_of_ble_eq_true rfl) (wfy_River_cell hO (d := d) _ _ _ _) (fun p51 => ?_)
  refine ty_bald hO dX0_columnBy_54 (fun x54 => ?_)
  refine tq_if_eq dX0_columnBy_55 rfl ?_ ?_
  · refine tq_iload dX0_columnBy_62 rfl ?_
    exact tq_ireturn dX0_columnBy_64 rfl rfl
  · refine tq_iconst (v := (-1)) dX0_columnBy_58 (by decide) ?_
    refine tq_goto dX0_columnBy_59 rfl ?_
    exact tq_ireturn dX0_columnBy_64 rfl rfl
abbrev Pfy_B_goMeet_b2 (G : ai_G) (d : Nat) (h0 : ai_H) (v0 : Nat) (v1 : Int32) : (Int32 × yS) ⊕ yS → Option ai_R → Prop := Sum.elim (fun (q : Int32 × yS) run => ∃ J : JV × JV × JV, run = ai_run G (d + 2) 235 2 [some (.ref v0), some (.int v1), some (.int q.1), J.1.1, J.2.1.1, J.2.2.1] [] (yH q.2 h0)) (fun (q : yS) run => ∃ J : JV × JV × JV × JV, run = ai_run G (d + 2) 235 24 [some (.ref v0), some (.int v1), J.1.1, J.2.1.1, J.2.2.1.1, J.2.2.2.1] [] (yH q h0))
theorem Bfy_B_goMeet_b2 {G : ai_G} {d : Nat} {h0 : ai_H} (hO : hOld G h0) (v0 : Nat) (v1 : Int32) (b0 : Int32) (b1 : yS) (J : JV × JV × JV) : Tj G (d + 2) 235 (Pfy_B_goMeet_b2 G d h0 v0 v1) (some (.inl (b0, b1))) 2 [some (.ref v0), some (.int v1), some (.int b0), J.1.1, J.2.1.1, J.2.2.1] [] (yH b1 h0) := tq_back J rfl rfl
theorem Efy_B_goMeet_b2 {G : ai_G} {d : Nat} {h0 : ai_H} (hO : hOld G h0) (v0 : Nat) (v1 : Int32) (b0 : yS) (J : JV × JV × JV × JV) : Tj G (d + 2) 235 (Pfy_B_goMeet_b2 G d h0 v0 v1) (some (.inr b0)) 24 [some (.ref v0), some (.int v1), J.1.1, J.2.1.1, J.2.2.1.1, J.2.2.2.1] [] (yH b0 h0) := tq_exit J rfl rfl
theorem wfy_B_goMeet_b2 {G : ai_G} {d : Nat} {h0 : ai_H} (hO : hOld G h0) (v0 : Nat) (v1 : Int32) (q : Int32 × yS) (J : JV × JV × JV) : Tj G (d + 2) 235 (Pfy_B_goMeet_b2 G d h0 v0 v1) (fy_B_goMeet_b2 G v0 v1 q) 2 [some (.ref v0), some (.int v1), some (.int q.1), J.1.1, J.2.1.1, J.2.2.1] [] (yH q.2 h0) := by
  unfold fy_B_goMeet_b2
  refine tq_iload_n dX0_goMeet_2 rfl ?_
  refine tq_aload_n dX0_goMeet_3 rfl ?_
  refine ty_gR dX0_goMeet_4 rfl rfl (fun x4 => ?_)
  refine ty_alen hO dX0_goMeet_7 (fun x7 => ?_)
  refine tq_icmp_ge dX0_goMeet_8 rfl ?_ ?_
  · exact Efy_B_goMeet_b2 hO _ _ _ (⟨some (.int q.1), rfl⟩, J.1, J.2.1, J.2.2)
  · refine tq_aload_n dX0_goMeet_11 rfl ?_
    refine ty_gR dX0_goMeet_12 rfl rfl (fun x12 => ?_)
    refine tq_iload_n dX0_goMeet_15 rfl ?_
    refine tq_iconst (v := 0) dX0_goMeet_16 (by decide) ?_
    refine ty_bast dX0_goMeet_17 (fun s17 => ?_)
    refine tq_iinc (v := (q.1 + 1)) (L' := [_, _, _, _, _, _]) dX0_goMeet_18 rfl (Nat.le_of_ble_eq_true rfl) rfl rfl ?_
    refine tq_goto dX0_goMeet_21 rfl ?_
    exact Bfy_B_goMeet_b2 hO _ _ _ _ (J.1, J.2.1, J.2.2)
theorem Sfy_B_goMeet_b2 {G : ai_G} {d : Nat} {h0 : ai_H} (hO : hOld G h0) {α : Type} {P : α → Option ai_R → Prop} (v0 : Nat) (v1 : Int32) (b0 : Int32) (b1 : yS) (J : JV × JV × JV) {r : yS → Option α} (kk : ∀ (q : yS) (J : JV × JV × JV × JV), Tj G (d + 2) 235 P (r q) 24 [some (.ref v0), some (.int v1), J.1.1, J.2.1.1, J.2.2.1.1, J.2.2.2.1] [] (yH q h0)) : Tj G (d + 2) 235 P ((lp (fy_B_goMeet_b2 G v0 v1) (b0, b1)).bind r) 2 [some (.ref v0), some (.int v1), some (.int b0), J.1.1, J.2.1.1, J.2.2.1] [] (yH b1 h0) := tq_lp1 (J := J) (fun q J => wfy_B_goMeet_b2 hO v0 v1 q J) rfl rfl kk
abbrev Pfy_B_goMeet_b26 (G : ai_G) (d : Nat) (h0 : ai_H) (v0 : Nat) (v1 : Int32) : (Int32 × yS) ⊕ yS → Option ai_R → Prop := Sum.elim (fun (q : Int32 × yS) run => ∃ J : JV × JV × JV, run = ai_run G (d + 2) 235 26 [some (.ref v0), some (.int v1), some (.int q.1), J.1.1, J.2.1.1, J.2.2.1] [] (yH q.2 h0)) (fun (q : yS) run => ∃ J : JV × JV × JV × JV × JV, run = ai_run G (d + 2) 235 120 [some (.ref v0), J.1.1, J.2.1.1, J.2.2.1.1, J.2.2.2.1.1, J.2.2.2.2.1] [] (yH q h0))
theorem Bfy_B_goMeet_b26 {G : ai_G} {d : Nat} {h0 : ai_H} (hO : hOld G h0) (v0 : Nat) (v1 : Int32) (b0 : Int32) (b1 : yS) (J : JV × JV × JV) : Tj G (d + 2) 235 (Pfy_B_goMeet_b26 G d h0 v0 v1) (some (.inl (b0, b1))) 26 [some (.ref v0), some (.int v1), some (.int b0), J.1.1, J.2.1.1, J.2.2.1] [] (yH b1 h0) := tq_back J rfl rfl
theorem Efy_B_goMeet_b26 {G : ai_G} {d : Nat} {h0 : ai_H} (hO : hOld G h0) (v0 : Nat) (v1 : Int32) (b0 : yS) (J : JV × JV × JV × JV × JV) : Tj G (d + 2) 235 (Pfy_B_goMeet_b26 G d h0 v0 v1) (some (.inr b0)) 120 [some (.ref v0), J.1.1, J.2.1.1, J.2.2.1.1, J.2.2.2.1.1, J.2.2.2.2.1] [] (yH b0 h0) := tq_exit J rfl rfl
abbrev Pfy_B_goMeet_b37 (G : ai_G) (d : Nat) (h0 : ai_H) (v0 : Nat) (v1 : Int32) (v2 : Int32) : (Int32 × yS) ⊕ yS → Option ai_R → Prop := Sum.elim (fun (q : Int32 × yS) run => ∃ J : JV × JV, run = ai_run G (d + 2) 235 37 [some (.ref v0), some (.int v1), some (.int v2), some (.int q.1), J.1.1, J.2.1] [] (yH q.2 h0)) (fun (q : yS) run => ∃ J : JV × JV × JV, run = ai_run G (d + 2) 235 114 [some (.ref v0), some (.int v1), some (.int v2), J.1.1, J.2.1.1, J.2.2.1] [] (yH q h0))
theorem Bfy_B_goMeet_b37 {G : ai_G} {d : Nat} {h0 : ai_H} (hO : hOld G h0) (v0 : Nat) (v1 : Int32) (v2 : Int32) (b0 : Int32) (b1 : yS) (J : JV × JV) : Tj G (d + 2) 235 (Pfy_B_goMeet_b37 G d h0 v0 v1 v2) (some (.inl (b0, b1))) 37 [some (.ref v0), some (.int v1), some (.int v2), some (.int b0), J.1.1, J.2.1] [] (yH b1 h0) := tq_back J rfl rfl
theorem Efy_B_goMeet_b37 {G : ai_G} {d : Nat} {h0 : ai_H} (hO : hOld G h0) (v0 : Nat) (v1 : Int32) (v2 : Int32) (b0 : yS) (J : JV × JV × JV) : Tj G (d + 2) 235 (Pfy_B_goMeet_b37 G d h0 v0 v1 v2) (some (.inr b0)) 114 [some (.ref v0), some (.int v1), some (.int v2), J.1.1, J.2.1.1, J.2.2.1] [] (yH b0 h0) := tq_exit J rfl rfl
theorem wfy_B_goMeet_b37 {G : ai_G} {d : Nat} {h0 : ai_H} (hO : hOld G h0) (v0 : Nat) (v1 : Int32) (v2 : Int32) (q : Int32 × yS) (J : JV × JV) : Tj G (d + 2) 235 (Pfy_B_goMeet_b37 G d h0 v0 v1 v2) (fy_B_goMeet_b37 G v0 v1 v2 q) 37 [some (.ref v0), some (.int v1), some (.int v2), some (.int q.1), J.1.1, J.2.1] [] (yH q.2 h0) := by
  unfold fy_B_goMeet_b37
  refine tq_aload_n dX0_goMeet_37 rfl ?_
  refine ty_gR dX0_goMeet_38 rfl rfl (fun x38 => ?_)
  refine tq_iload_n dX0_goMeet_41 rfl ?_
  refine ty_bald hO dX0_goMeet_42 (fun x42 => ?_)
  refine tq_if_eq dX0_goMeet_43 rfl ?_ ?_
  · exact Efy_B_goMeet_b37 hO _ _ _ _ (⟨some (.int q.1), rfl⟩, J.1, J.2)
  · refine tq_iload_n dX0_goMeet_46 rfl ?_
    refine tq_bipush (v := 9) dX0_goMeet_47 (by decide) ?_
    refine tq_icmp_ge dX0_goMeet_49 rfl ?_ ?_
    · exact Efy_B_goMeet_b37 hO _ _ _ _ (⟨some (.int q.1), rfl⟩, J.1, J.2)
    · refine tq_aload_n dX0_goMeet_52 rfl ?_
      refine tq_iload_n dX0_goMeet_53 rfl ?_
      refine tq_bipush (v := 8) dX0_goMeet_54 (by decide) ?_
      refine tq_idiv dX0_goMeet_56 (fun x56 => ?_)
      refine tq_iload_n dX0_goMeet_57 rfl ?_
      refine tq_iload_n dX0_goMeet_58 rfl ?_
      refine tq_iconst (v := 3) dX0_goMeet_59 (by decide) ?_
      refine tq_idiv dX0_goMeet_60 (fun x60 => ?_)
      refine tq_iconst (v := 1) dX0_goMeet_61 (by decide) ?_
      refine tq_isub dX0_goMeet_62 ?_
      refine ty_v3_i dX0_goMeet_63 rfl rfl rfl (Nat.le_of_ble_eq_true rfl) (wfy_B_columnBy hO (d := d) _ _ _ _ _) (fun p63 => ?_)
      refine tq_istore (L' := [_, _, _, _, _, _]) dX0_goMeet_66 (Nat.le_of_ble_eq_true rfl) rfl ?_
      refine tq_aload_n dX0_goMeet_68 rfl ?_
      refine tq_iload_n dX0_goMeet_69 rfl ?_
      refine tq_bipush (v := 8) dX0_goMeet_70 (by decide) ?_
      refine tq_irem dX0_goMeet_72 (fun x72 => ?_)
      refine tq_iload_n dX0_goMeet_73 rfl ?_
      refine tq_iload_n dX0_goMeet_74 rfl ?_
      refine tq_iconst (v := 3) dX0_goMeet_75 (by decide) ?_
      refine tq_irem dX0_goMeet_76 (fun x76 => ?_)
      refine tq_iconst (v := 1) dX0_goMeet_77 (by decide) ?_
      refine tq_isub dX0_goMeet_78 ?_
      refine ty_v3_i dX0_goMeet_79 rfl rfl rfl (Nat.le_of_ble_eq_true rfl) (wfy_B_columnBy hO (d := d) _ _ _ _ _) (fun p79 => ?_)
      refine tq_istore (L' := [_, _, _, _, _, _]) dX0_goMeet_82 (Nat.le_of_ble_eq_true rfl) rfl ?_
      refine tq_iload dX0_goMeet_84 rfl ?_
      refine tq_if_lt dX0_goMeet_86 rfl ?_ ?_
      · refine tq_iinc (v := (q.1 + 1)) (L' := [_, _, _, _, _, _]) dX0_goMeet_108 rfl (Nat.le_of_ble_eq_true rfl) rfl rfl ?_
        refine tq_goto dX0_goMeet_111 rfl ?_
        exact Bfy_B_goMeet_b37 hO _ _ _ _ _ (⟨some (.int p63), rfl⟩, ⟨some (.int p79), rfl⟩)
      · refine tq_iload dX0_goMeet_89 rfl ?_
        refine tq_if_lt dX0_goMeet_91 rfl ?_ ?_
        · refine tq_iinc (v := (q.1 + 1)) (L' := [_, _, _, _, _, _]) dX0_goMeet_108 rfl (Nat.le_of_ble_eq_true rfl) rfl rfl ?_
          refine tq_goto dX0_goMeet_111 rfl ?_
          exact Bfy_B_goMeet_b37 hO _ _ _ _ _ (⟨some (.int p63), rfl⟩, ⟨some (.int p79), rfl⟩)
        · refine tq_aload_n dX0_goMeet_94 rfl ?_
          refine ty_gR dX0_goMeet_95 rfl rfl (fun x95 => ?_)
          refine tq_bipush (v := 8) dX0_goMeet_98 (by decide) ?_
          refine tq_iload dX0_goMeet_100 rfl ?_
          refine tq_imul dX0_goMeet_102 ?_
          refine tq_iload dX0_goMeet_103 rfl ?_
          refine tq_iadd dX0_goMeet_105 ?_
          refine tq_iconst (v := 1) dX0_goMeet_106 (by decide) ?_
          refine ty_bast dX0_goMeet_107 (fun s107 => ?_)
          refine tq_iinc (v := (q.1 + 1)) (L' := [_, _, _, _, _, _]) dX0_goMeet_108 rfl (Nat.le_of_ble_eq_true rfl) rfl rfl ?_
          refine tq_goto dX0_goMeet_111 rfl ?_
          exact Bfy_B_goMeet_b37 hO _ _ _ _ _ (⟨some (.int p63), rfl⟩, ⟨some (.int p79), rfl⟩)
theorem Sfy_B_goMeet_b37 {G : ai_G} {d : Nat} {h0 : ai_H} (hO : hOld G h0) {α : Type} {P : α → Option ai_R → Prop} (v0 : Nat) (v1 : Int32) (v2 : Int32) (b0 : Int32) (b1 : yS) (J : JV × JV) {r : yS → Option α} (kk : ∀ (q : yS) (J : JV × JV × JV), Tj G (d + 2) 235 P (r q) 114 [some (.ref v0), some (.int v1), some (.int v2), J.1.1, J.2.1.1, J.2.2.1] [] (yH q h0)) : Tj G (d + 2) 235 P ((lp (fy_B_goMeet_b37 G v0 v1 v2) (b0, b1)).bind r) 37 [some (.ref v0), some (.int v1), some (.int v2), some (.int b0), J.1.1, J.2.1] [] (yH b1 h0) := tq_lp1 (J := J) (fun q J => wfy_B_goMeet_b37 hO v0 v1 v2 q J) rfl rfl kk
theorem wfy_B_goMeet_b26 {G : ai_G} {d : Nat} {h0 : ai_H} (hO : hOld G h0) (v0 : Nat) (v1 : Int32) (q : Int32 × yS) (J : JV × JV × JV) : Tj G (d + 2) 235 (Pfy_B_goMeet_b26 G d h0 v0 v1) (fy_B_goMeet_b26 G v0 v1 q) 26 [some (.ref v0), some (.int v1), some (.int q.1), J.1.1, J.2.1.1, J.2.2.1] [] (yH q.2 h0) := by
  unfold fy_B_goMeet_b26
  refine tq_iload_n dX0_goMeet_26 rfl ?_
  refine tq_aload_n dX0_goMeet_27 rfl ?_
  refine ty_gR dX0_goMeet_28 rfl rfl (fun x28 => ?_)
  refine ty_alen hO dX0_goMeet_31 (fun x31 => ?_)
  refine tq_icmp_ge dX0_goMeet_32 rfl ?_ ?_
  · exact Efy_B_goMeet_b26 hO _ _ _ (⟨some (.int v1), rfl⟩, ⟨some (.int q.1), rfl⟩, J.1, J.2.1, J.2.2)
  · refine tq_iconst (v := 0) dX0_goMeet_35 (by decide) ?_
    refine tq_istore_n (L' := [_, _, _, _, _, _]) dX0_goMeet_36 (Nat.le_of_ble_eq_true rfl) rfl ?_
    refine Sfy_B_goMeet_b37 hO _ _ _ _ _ (J.2.1, J.2.2) (fun q37 J37 => ?_)
    refine tq_iinc (v := (q.1 + 1)) (L' := [_, _, _, _, _, _]) dX0_goMeet_114 rfl (Nat.le_of_ble_eq_true rfl) rfl rfl ?_
    refine tq_goto dX0_goMeet_117 rfl ?_
    exact Bfy_B_goMeet_b26 hO _ _ _ _ (J37.1, J37.2.1, J37.2.2)
theorem Sfy_B_goMeet_b26 {G : ai_G} {d : Nat} {h0 : ai_H} (hO : hOld G h0) {α : Type} {P : α → Option ai_R → Prop} (v0 : Nat) (v1 : Int32) (b0 : Int32) (b1 : yS) (J : JV × JV × JV) {r : yS → Option α} (kk : ∀ (q : yS) (J : JV × JV × JV × JV × JV), Tj G (d + 2) 235 P (r q) 120 [some (.ref v0), J.1.1, J.2.1.1, J.2.2.1.1, J.2.2.2.1.1, J.2.2.2.2.1] [] (yH q h0)) : Tj G (d + 2) 235 P ((lp (fy_B_goMeet_b26 G v0 v1) (b0, b1)).bind r) 26 [some (.ref v0), some (.int v1), some (.int b0), J.1.1, J.2.1.1, J.2.2.1] [] (yH b1 h0) := tq_lp1 (J := J) (fun q J => wfy_B_goMeet_b26 hO v0 v1 q J) rfl rfl kk
theorem wfy_B_goMeet {G : ai_G} {d : Nat} {h0 : ai_H} (hO : hOld G h0) (s : yS) (v0 : Nat) (v1 : Int32) : ∀ r, fy_B_goMeet G s v0 v1 = some r → (PyV h0) r (ai_call G (d + 3) 235 [.ref v0, .int v1] (yH s h0)) := by
  refine tq_meth (P := (PyV h0)) (d := (d + 2)) (Nat.le_of_ble_eq_true rfl) ?_
  show Tj G (d + 2) 235 (PyV h0) (fy_B_goMeet G s v0 v1) 0 [some (.ref v0), some (.int v1), none, none, none, none] [] (yH s h0)
  unfold fy_B_goMeet
  refine tq_iconst (v := 0) dX0_goMeet_0 (by decide) ?_
  refine tq_istore_n (L' := [_, _, _, _, _, _]) dX0_goMeet_1 (Nat.le_of_ble_eq_true rfl) rfl ?_
  refine Sfy_B_goMeet_b2 hO _ _ _ _ (⟨none, rfl⟩, ⟨none, rfl⟩, ⟨none, rfl⟩) (fun q2 J2 => ?_)
  refine tq_iconst (v := 0) dX0_goMeet_24 (by decide) ?_
  refine tq_istore_n (L' := [_, _, _, _, _, _]) dX0_goMeet_25 (Nat.le_of_ble_eq_true rfl) rfl ?_
  refine Sfy_B_goMeet_b26 hO _ _ _ _ (J2.2.1, J2.2.2.1, J2.2.2.2) (fun q26 J26 => ?_)
  refine tq_aload_n dX0_goMeet_120 rfl ?_
  refine ty_gR dX0_goMeet_121 rfl rfl (fun x121 => ?_)
  refine tq_iconst (v := 0) dX0_goMeet_124 (by decide) ?_
  refine tq_aload_n dX0_goMeet_125 rfl ?_
  refine ty_gR dX0_goMeet_126 rfl rfl (fun x126 => ?_)
  refine tq_iconst (v := 0) dX0_goMeet_129 (by decide) ?_
  refine tq_aload_n dX0_goMeet_130 rfl ?_
  refine ty_gR dX0_goMeet_131 rfl rfl (fun x131 => ?_)
  refine ty_alen hO dX0_goMeet_134 (fun x134 => ?_)
  refine ty_copyI dX0_goMeet_135 rfl (Nat.le_of_ble_eq_true rfl) (fun s135 => ?_)
  exact tq_return dX0_goMeet_138 rfl rfl
abbrev Pfy_B_meet_b46 (G : ai_G) (d : Nat) (h0 : ai_H) (v0 : Nat) (v1 : Int32) (v2 : Int32) : (Int32 × yS) ⊕ yS → Option ai_R → Prop := Sum.elim (fun (q : Int32 × yS) run => ∃ J : Unit, run = ai_run G (d + 3) 236 46 [some (.ref v0), some (.int v1), some (.int v2), some (.int q.1)] [] (yH q.2 h0)) (fun (q : yS) run => ∃ J : JV × JV, run = ai_run G (d + 3) 236 98 [some (.ref v0), some (.int v1), J.1.1, J.2.1] [] (yH q h0))
theorem Bfy_B_meet_b46 {G : ai_G} {d : Nat} {h0 : ai_H} (hO : hOld G h0) (v0 : Nat) (v1 : Int32) (v2 : Int32) (b0 : Int32) (b1 : yS) (J : Unit) : Tj G (d + 3) 236 (Pfy_B_meet_b46 G d h0 v0 v1 v2) (some (.inl (b0, b1))) 46 [some (.ref v0), some (.int v1), some (.int v2), some (.int b0)] [] (yH b1 h0) := tq_back J rfl rfl
theorem Efy_B_meet_b46 {G : ai_G} {d : Nat} {h0 : ai_H} (hO : hOld G h0) (v0 : Nat) (v1 : Int32) (v2 : Int32) (b0 : yS) (J : JV × JV) : Tj G (d + 3) 236 (Pfy_B_meet_b46 G d h0 v0 v1 v2) (some (.inr b0)) 98 [some (.ref v0), some (.int v1), J.1.1, J.2.1] [] (yH b0 h0) := tq_exit J rfl rfl
theorem wfy_B_meet_b46 {G : ai_G} {d : Nat} {h0 : ai_H} (hO : hOld G h0) (v0 : Nat) (v1 : Int32) (v2 : Int32) (q : Int32 × yS) (J : Unit) : Tj G (d + 3) 236 (Pfy_B_meet_b46 G d h0 v0 v1 v2) (fy_B_meet_b46 G v0 v1 v2 q) 46 [some (.ref v0), some (.int v1), some (.int v2), some (.int q.1)] [] (yH q.2 h0) := by
  unfold fy_B_meet_b46
  refine tq_iload_n dX0_meet_46 rfl ?_
  refine tq_aload_n dX0_meet_47 rfl ?_
  refine ty_gR dX0_meet_48 rfl rfl (fun x48 => ?_)
  refine ty_alen hO dX0_meet_51 (fun x51 => ?_)
  refine tq_icmp_ge dX0_meet_52 rfl ?_ ?_
  · exact Efy_B_meet_b46 hO _ _ _ _ (⟨some (.int v2), rfl⟩, ⟨some (.int q.1), rfl⟩)
  · refine tq_aload_n dX0_meet_55 rfl ?_
    refine ty_gR dX0_meet_56 rfl rfl (fun x56 => ?_)
    refine tq_iload_n dX0_meet_59 rfl ?_
    refine tq_iload_n dX0_meet_60 rfl ?_
    refine tq_bipush (v := 8) dX0_meet_61 (by decide) ?_
    refine tq_aload_n dX0_meet_63 rfl ?_
    refine ty_gR dX0_meet_64 rfl rfl (fun x64 => ?_)
    refine ty_gR dX0_meet_67 rfl rfl (fun x67 => ?_)
    refine tq_iload_n dX0_meet_70 rfl ?_
    refine ty_iald dX0_meet_71 (fun x71 => ?_)
    refine tq_imul dX0_meet_72 ?_
    refine tq_aload_n dX0_meet_73 rfl ?_
    refine ty_gR dX0_meet_74 rfl rfl (fun x74 => ?_)
    refine ty_gR dX0_meet_77 rfl rfl (fun x77 => ?_)
    refine tq_iload_n dX0_meet_80 rfl ?_
    refine ty_iald dX0_meet_81 (fun x81 => ?_)
    refine tq_iadd dX0_meet_82 ?_
    refine tq_icmp_ne dX0_meet_83 rfl ?_ ?_
    · refine tq_iconst (v := 0) dX0_meet_90 (by decide) ?_
      refine ty_bast dX0_meet_91 (fun s91 => ?_)
      refine tq_iinc (v := (q.1 + 1)) (L' := [_, _, _, _]) dX0_meet_92 rfl (Nat.le_of_ble_eq_true rfl) rfl rfl ?_
      refine tq_goto dX0_meet_95 rfl ?_
      exact Bfy_B_meet_b46 hO _ _ _ _ _ ()
    · refine tq_iconst (v := 1) dX0_meet_86 (by decide) ?_
      refine tq_goto dX0_meet_87 rfl ?_
      refine ty_bast dX0_meet_91 (fun s91 => ?_)
      refine tq_iinc (v := (q.1 + 1)) (L' := [_, _, _, _]) dX0_meet_92 rfl (Nat.le_of_ble_eq_true rfl) rfl rfl ?_
      refine tq_goto dX0_meet_95 rfl ?_
      exact Bfy_B_meet_b46 hO _ _ _ _ _ ()
theorem Sfy_B_meet_b46 {G : ai_G} {d : Nat} {h0 : ai_H} (hO : hOld G h0) {α : Type} {P : α → Option ai_R → Prop} (v0 : Nat) (v1 : Int32) (v2 : Int32) (b0 : Int32) (b1 : yS) (J : Unit) {r : yS → Option α} (kk : ∀ (q : yS) (J : JV × JV), Tj G (d + 3) 236 P (r q) 98 [some (.ref v0), some (.int v1), J.1.1, J.2.1] [] (yH q h0)) : Tj G (d + 3) 236 P ((lp (fy_B_meet_b46 G v0 v1 v2) (b0, b1)).bind r) 46 [some (.ref v0), some (.int v1), some (.int v2), some (.int b0)] [] (yH b1 h0) := tq_lp1 (J := J) (fun q J => wfy_B_meet_b46 hO v0 v1 v2 q J) rfl rfl kk
abbrev Pfy_B_meet_b100 (G : ai_G) (d : Nat) (h0 : ai_H) (v0 : Nat) (v1 : Int32) : (Int32 × yS) ⊕ (yS ⊕ (Int32 × yS)) → Option ai_R → Prop := Sum.elim (fun (q : Int32 × yS) run => ∃ J : JV, run = ai_run G (d + 3) 236 100 [some (.ref v0), some (.int v1), J.1, some (.int q.1)] [] (yH q.2 h0)) (Sum.elim (fun (q : yS) run => ∃ J : JV × JV × JV × JV, run = ai_run G (d + 3) 236 148 [J.1.1, J.2.1.1, J.2.2.1.1, J.2.2.2.1] [] (yH q h0)) (PyI h0))
theorem Bfy_B_meet_b100 {G : ai_G} {d : Nat} {h0 : ai_H} (hO : hOld G h0) (v0 : Nat) (v1 : Int32) (b0 : Int32) (b1 : yS) (J : JV) : Tj G (d + 3) 236 (Pfy_B_meet_b100 G d h0 v0 v1) (some (.inl (b0, b1))) 100 [some (.ref v0), some (.int v1), J.1, some (.int b0)] [] (yH b1 h0) := tq_back J rfl rfl
theorem Efy_B_meet_b100 {G : ai_G} {d : Nat} {h0 : ai_H} (hO : hOld G h0) (v0 : Nat) (v1 : Int32) (b0 : yS) (J : JV × JV × JV × JV) : Tj G (d + 3) 236 (Pfy_B_meet_b100 G d h0 v0 v1) (some (.inr (.inl b0))) 148 [J.1.1, J.2.1.1, J.2.2.1.1, J.2.2.2.1] [] (yH b0 h0) := tq_exit2 J rfl rfl
theorem wfy_B_meet_b100 {G : ai_G} {d : Nat} {h0 : ai_H} (hO : hOld G h0) (v0 : Nat) (v1 : Int32) (q : Int32 × yS) (J : JV) : Tj G (d + 3) 236 (Pfy_B_meet_b100 G d h0 v0 v1) (fy_B_meet_b100 G v0 v1 q) 100 [some (.ref v0), some (.int v1), J.1, some (.int q.1)] [] (yH q.2 h0) := by
  unfold fy_B_meet_b100
  refine tq_iload_n dX0_meet_100 rfl ?_
  refine tq_aload_n dX0_meet_101 rfl ?_
  refine tq_iload_n dX0_meet_102 rfl ?_
  refine ty_v1_i dX0_meet_103 rfl rfl rfl (Nat.le_of_ble_eq_true rfl) (wfy_B_strokesLeft hO (d := d + 2) _ _ _) (fun p103 => ?_)
  refine tq_icmp_gt dX0_meet_106 rfl ?_ ?_
  · exact Efy_B_meet_b100 hO _ _ _ (⟨some (.ref v0), rfl⟩, ⟨some (.int v1), rfl⟩, J, ⟨some (.int q.1), rfl⟩)
  · refine tq_aload_n dX0_meet_109 rfl ?_
    refine ty_v0_i dX0_meet_110 rfl rfl rfl (Nat.le_of_ble_eq_true rfl) (wfy_B_areSideBySide hO (d := d + 2) _ _) (fun p110 => ?_)
    refine tq_if_eq dX0_meet_113 rfl ?_ ?_
    · refine tq_iload_n dX0_meet_118 rfl ?_
      refine tq_aload_n dX0_meet_119 rfl ?_
      refine tq_iload_n dX0_meet_120 rfl ?_
      refine ty_v1_i dX0_meet_121 rfl rfl rfl (Nat.le_of_ble_eq_true rfl) (wfy_B_strokesLeft hO (d := d + 2) _ _ _) (fun p121 => ?_)
      refine tq_icmp_ge dX0_meet_124 rfl ?_ ?_
      · refine tq_iinc (v := (q.1 + 1)) (L' := [_, _, _, _]) dX0_meet_142 rfl (Nat.le_of_ble_eq_true rfl) rfl (st1_jv (i := 2) (j := J) rfl rfl) ?_
        refine tq_goto dX0_meet_145 rfl ?_
        exact Bfy_B_meet_b100 hO _ _ _ _ J
      · refine tq_aload_n dX0_meet_127 rfl ?_
        refine tq_aload_n dX0_meet_128 rfl ?_
        refine ty_gR dX0_meet_129 rfl rfl (fun x129 => ?_)
        refine ty_gR dX0_meet_132 rfl rfl (fun x132 => ?_)
        refine tq_iload_n dX0_meet_135 rfl ?_
        refine ty_iald dX0_meet_136 (fun x136 => ?_)
        refine tq_iload_n dX0_meet_137 rfl ?_
        refine tq_iadd dX0_meet_138 ?_
        refine ty_v1_V dX0_meet_139 rfl rfl rfl (Nat.le_of_ble_eq_true rfl) (wfy_B_goMeet hO (d := d) _ _ _) (fun p139 => ?_)
        refine tq_iinc (v := (q.1 + 1)) (L' := [_, _, _, _]) dX0_meet_142 rfl (Nat.le_of_ble_eq_true rfl) rfl (st1_jv (i := 2) (j := J) rfl rfl) ?_
        refine tq_goto dX0_meet_145 rfl ?_
        exact Bfy_B_meet_b100 hO _ _ _ _ J
    · refine tq_iload_n dX0_meet_116 rfl ?_
      exact tq_ireturn dX0_meet_117 rfl rfl
theorem Sfy_B_meet_b100 {G : ai_G} {d : Nat} {h0 : ai_H} (hO : hOld G h0) {α : Type} {P : α → Option ai_R → Prop} (v0 : Nat) (v1 : Int32) (b0 : Int32) (b1 : yS) (J : JV) {r : yS → Option α} {r2 : (Int32 × yS) → Option α} (k2 : ∀ v run, (PyI h0) v run → ∀ a, r2 v = some a → P a run) (kk : ∀ (q : yS) (J : JV × JV × JV × JV), Tj G (d + 3) 236 P (r q) 148 [J.1.1, J.2.1.1, J.2.2.1.1, J.2.2.2.1] [] (yH q h0)) : Tj G (d + 3) 236 P ((lp (fy_B_meet_b100 G v0 v1) (b0, b1)).bind (Sum.elim r r2)) 100 [some (.ref v0), some (.int v1), J.1, some (.int b0)] [] (yH b1 h0) := tq_lp2 (J := J) (fun q J => wfy_B_meet_b100 hO v0 v1 q J) rfl rfl k2 kk
theorem wfy_B_meet {G : ai_G} {d : Nat} {h0 : ai_H} (hO : hOld G h0) (s : yS) (v0 : Nat) (v1 : Int32) (v2 : Int32) : ∀ r, fy_B_meet G s v0 v1 v2 = some r → (PyI h0) r (ai_call G (d + 4) 236 [.ref v0, .int v1, .int v2] (yH s h0)) := by
  refine tq_meth (P := (PyI h0)) (d := (d + 3)) (Nat.le_of_ble_eq_true rfl) ?_
  show Tj G (d + 3) 236 (PyI h0) (fy_B_meet G s v0 v1 v2) 0 [some (.ref v0), some (.int v1), some (.int v2), none] [] (yH s h0)
  unfold fy_B_meet
  refine tq_aload_n dX0_meet_0 rfl ?_
  refine tq_iload_n dX0_meet_1 rfl ?_
  refine ty_v1_i dX0_meet_2 rfl rfl rfl (Nat.le_of_ble_eq_true rfl) (wfy_B_isBoard hO (d := d) _ _ _) (fun p2 => ?_)
  refine tq_if_eq dX0_meet_5 rfl ?_ ?_
  · refine tq_iconst (v := (-1)) dX0_meet_42 (by decide) ?_
    exact tq_ireturn dX0_meet_43 rfl rfl
  · refine tq_aload_n dX0_meet_8 rfl ?_
    refine tq_iload_n dX0_meet_9 rfl ?_
    refine ty_v1_i dX0_meet_10 rfl rfl rfl (Nat.le_of_ble_eq_true rfl) (wfy_B_isBoard hO (d := d) _ _ _) (fun p10 => ?_)
    refine tq_if_eq dX0_meet_13 rfl ?_ ?_
    · refine tq_iconst (v := (-1)) dX0_meet_42 (by decide) ?_
      exact tq_ireturn dX0_meet_43 rfl rfl
    · refine tq_iload_n dX0_meet_16 rfl ?_
      refine tq_iload_n dX0_meet_17 rfl ?_
      refine tq_icmp_eq dX0_meet_18 rfl ?_ ?_
      · refine tq_iconst (v := (-1)) dX0_meet_42 (by decide) ?_
        exact tq_ireturn dX0_meet_43 rfl rfl
      · refine tq_aload_n dX0_meet_21 rfl ?_
        refine ty_gR dX0_meet_22 rfl rfl (fun x22 => ?_)
        refine ty_gR dX0_meet_25 rfl rfl (fun x25 => ?_)
        refine tq_iload_n dX0_meet_28 rfl ?_
        refine ty_iald dX0_meet_29 (fun x29 => ?_)
        refine tq_aload_n dX0_meet_30 rfl ?_
        refine ty_gR dX0_meet_31 rfl rfl (fun x31 => ?_)
        refine ty_gR dX0_meet_34 rfl rfl (fun x34 => ?_)
        refine tq_iload_n dX0_meet_37 rfl ?_
        refine ty_iald dX0_meet_38 (fun x38 => ?_)
        refine tq_icmp_eq dX0_meet_39 rfl ?_ ?_
        · refine tq_iconst (v := 0) dX0_meet_44 (by decide) ?_
          refine tq_istore_n (L' := [_, _, _, _]) dX0_meet_45 (Nat.le_of_ble_eq_true rfl) rfl ?_
          refine Sfy_B_meet_b46 hO _ _ _ _ _ () (fun q46 J46 => ?_)
          refine tq_iconst (v := 0) dX0_meet_98 (by decide) ?_
          refine tq_istore_n (L' := [_, _, _, _]) dX0_meet_99 (Nat.le_of_ble_eq_true rfl) (st1_jv (i := 2) (j := J46.1) rfl rfl) ?_
          refine Sfy_B_meet_b100 hO _ _ _ _ J46.1 (fun v run hv a ha => by cases ha; exact hv) (fun q100 J100 => ?_)
          refine tq_iconst (v := (-1)) dX0_meet_148 (by decide) ?_
          exact tq_ireturn dX0_meet_149 rfl rfl
        · refine tq_iconst (v := (-1)) dX0_meet_42 (by decide) ?_
          exact tq_ireturn dX0_meet_43 rfl rfl
theorem wfy_B_has {G : ai_G} {d : Nat} {h : ai_H} (v0 : Int32) (v1 : Int32) : ∀ r, fy_B_has v0 v1 = some r → (Pi h) r (ai_call G (d + 1) 241 [.int v0, .int v1] h) := by
  refine tq_meth (P := (Pi h)) (d := d) (Nat.le_of_ble_eq_true rfl) ?_
  show Tj G d 241 (Pi h) (fy_B_has v0 v1) 0 [some (.int v0), some (.int v1)] [] h
  unfold fy_B_has
  refine tq_iload_n dX0_has_0 rfl ?_
  refine tq_iload_n dX0_has_1 rfl ?_
  refine tq_ishr dX0_has_2 ?_
  refine tq_iconst (v := 1) dX0_has_3 (by decide) ?_
  refine tq_iand dX0_has_4 ?_
  refine tq_iconst (v := 1) dX0_has_5 (by decide) ?_
  refine tq_icmp_ne dX0_has_6 rfl ?_ ?_
  · refine tq_iconst (v := 0) dX0_has_13 (by decide) ?_
    exact tq_ireturn dX0_has_14 (by decide) rfl
  · refine tq_iconst (v := 1) dX0_has_9 (by decide) ?_
    refine tq_goto dX0_has_10 rfl ?_
    exact tq_ireturn dX0_has_14 (by decide) rfl

/-! WALKS of the component (printed by tools/decy.py) -/
set_option maxRecDepth 100000
abbrev Pfy_B_goMoor_b63 (G : ai_G) (d : Nat) (h0 : ai_H) (v0 : Nat) (v1 : Int32) (v2 : Int32) (v3 : Int32) (v4 : Int32) : (Int32 × yS) ⊕ yS → Option ai_R → Prop := Sum.elim (fun (q : Int32 × yS) run => ∃ J : Unit, run = ai_run G (d + 2) 242 63 [some (.ref v0), some (.int v1), some (.int v2), some (.int v3), some (.int v4), some (.int q.1)] [] (yH q.2 h0)) (fun (q : yS) run => ∃ J : JV, run = ai_run G (d + 2) 242 161 [some (.ref v0), some (.int v1), some (.int v2), some (.int v3), some (.int v4), J.1] [] (yH q h0))
theorem Bfy_B_goMoor_b63 {G : ai_G} {d : Nat} {h0 : ai_H} (hO : hOld G h0) (v0 : Nat) (v1 : Int32) (v2 : Int32) (v3 : Int32) (v4 : Int32) (b0 : Int32) (b1 : yS) (J : Unit) : Tj G (d + 2) 242 (Pfy_B_goMoor_b63 G d h0 v0 v1 v2 v3 v4) (some (.inl (b0, b1))) 63 [some (.ref v0), some (.int v1), some (.int v2), some (.int v3), some (.int v4), some (.int b0)] [] (yH b1 h0) := tq_back J rfl rfl
theorem Efy_B_goMoor_b63 {G : ai_G} {d : Nat} {h0 : ai_H} (hO : hOld G h0) (v0 : Nat) (v1 : Int32) (v2 : Int32) (v3 : Int32) (v4 : Int32) (b0 : yS) (J : JV) : Tj G (d + 2) 242 (Pfy_B_goMoor_b63 G d h0 v0 v1 v2 v3 v4) (some (.inr b0)) 161 [some (.ref v0), some (.int v1), some (.int v2), some (.int v3), some (.int v4), J.1] [] (yH b0 h0) := tq_exit J rfl rfl
theorem wfy_B_goMoor_b63 {G : ai_G} {d : Nat} {h0 : ai_H} (hO : hOld G h0) {rec : yS → Nat → Int32 → Int32 → Int32 → Int32 → Option (yS)} (hrec : ∀ (s : yS) (v0 : Nat) (v1 : Int32) (v2 : Int32) (v3 : Int32) (v4 : Int32) r, rec s v0 v1 v2 v3 v4 = some r → (PyV h0) r (ai_call G d 242 [.ref v0, .int v1, .int v2, .int v3, .int v4] (yH s h0))) (v0 : Nat) (v1 : Int32) (v2 : Int32) (v3 : Int32) (v4 : Int32) (q : Int32 × yS) (J : Unit) : Tj G (d + 2) 242 (Pfy_B_goMoor_b63 G d h0 v0 v1 v2 v3 v4) (fy_B_goMoor_b63 G rec v0 v1 v2 v3 v4 q) 63 [some (.ref v0), some (.int v1), some (.int v2), some (.int v3), some (.int v4), some (.int q.1)] [] (yH q.2 h0) := by
  unfold fy_B_goMoor_b63
  refine tq_iload dX0_goMoor_63 rfl ?_
  refine tq_aload_n dX0_goMoor_65 rfl ?_
  refine ty_gR dX0_goMoor_66 rfl rfl (fun x66 => ?_)
  refine ty_gI dX0_goMoor_69 rfl rfl (fun x69 => ?_)
  refine tq_icmp_ge dX0_goMoor_72 rfl ?_ ?_
  · exact Efy_B_goMoor_b63 hO _ _ _ _ _ _ ⟨some (.int q.1), rfl⟩
  · refine tq_aload_n dX0_goMoor_75 rfl ?_
    refine ty_gR dX0_goMoor_76 rfl rfl (fun x76 => ?_)
    refine ty_gR dX0_goMoor_79 rfl rfl (fun x79 => ?_)
    refine tq_iload_n dX0_goMoor_82 rfl ?_
    refine ty_iald dX0_goMoor_83 (fun x83 => ?_)
    refine tq_if_ne dX0_goMoor_84 rfl ?_ ?_
    · refine tq_iinc (v := (q.1 + 1)) (L' := [_, _, _, _, _, _]) dX0_goMoor_155 rfl (Nat.le_of_ble_eq_true rfl) rfl rfl ?_
      refine tq_goto dX0_goMoor_158 rfl ?_
      exact Bfy_B_goMoor_b63 hO _ _ _ _ _ _ _ ()
    · refine tq_iload_n dX0_goMoor_87 rfl ?_
      refine tq_iload dX0_goMoor_88 rfl ?_
      refine ty_s2_pi dX0_goMoor_90 rfl rfl rfl (Nat.le_of_ble_eq_true rfl) (wfy_B_has (d := d + 1) _ _) (fun p90 => ?_)
      refine tq_if_ne dX0_goMoor_93 rfl ?_ ?_
      · refine tq_iinc (v := (q.1 + 1)) (L' := [_, _, _, _, _, _]) dX0_goMoor_155 rfl (Nat.le_of_ble_eq_true rfl) rfl rfl ?_
        refine tq_goto dX0_goMoor_158 rfl ?_
        exact Bfy_B_goMoor_b63 hO _ _ _ _ _ _ _ ()
      · refine tq_aload_n dX0_goMoor_96 rfl ?_
        refine ty_gR dX0_goMoor_97 rfl rfl (fun x97 => ?_)
        refine tq_iload_n dX0_goMoor_100 rfl ?_
        refine ty_iald dX0_goMoor_101 (fun x101 => ?_)
        refine tq_iload dX0_goMoor_102 rfl ?_
        refine ty_s2_pi dX0_goMoor_104 rfl rfl rfl (Nat.le_of_ble_eq_true rfl) (wfy_B_has (d := d + 1) _ _) (fun p104 => ?_)
        refine tq_if_ne dX0_goMoor_107 rfl ?_ ?_
        · refine tq_aload_n dX0_goMoor_113 rfl ?_
          refine ty_gR dX0_goMoor_114 rfl rfl (fun x114 => ?_)
          refine tq_iload_n dX0_goMoor_117 rfl ?_
          refine tq_iload dX0_goMoor_118 rfl ?_
          refine ty_iast dX0_goMoor_120 (fun s120 => ?_)
          refine tq_aload_n dX0_goMoor_121 rfl ?_
          refine tq_iload_n dX0_goMoor_122 rfl ?_
          refine tq_iconst (v := 1) dX0_goMoor_123 (by decide) ?_
          refine tq_iadd dX0_goMoor_124 ?_
          refine tq_iload_n dX0_goMoor_125 rfl ?_
          refine tq_iconst (v := 1) dX0_goMoor_126 (by decide) ?_
          refine tq_iload dX0_goMoor_127 rfl ?_
          refine tq_ishl dX0_goMoor_129 ?_
          refine tq_ior dX0_goMoor_130 ?_
          refine tq_iload_n dX0_goMoor_131 rfl ?_
          refine tq_iconst (v := 1) dX0_goMoor_132 (by decide) ?_
          refine tq_iadd dX0_goMoor_133 ?_
          refine tq_iload dX0_goMoor_134 rfl ?_
          refine tq_iload dX0_goMoor_136 rfl ?_
          refine tq_aload_n dX0_goMoor_138 rfl ?_
          refine ty_gR dX0_goMoor_139 rfl rfl (fun x139 => ?_)
          refine ty_gR dX0_goMoor_142 rfl rfl (fun x142 => ?_)
          refine tq_iload_n dX0_goMoor_145 rfl ?_
          refine ty_iald dX0_goMoor_146 (fun x146 => ?_)
          refine tq_isub dX0_goMoor_147 ?_
          refine tq_iabs dX0_goMoor_148 rfl rfl rfl rfl (Nat.le_of_ble_eq_true rfl) ?_
          refine tq_iadd dX0_goMoor_151 ?_
          refine ty_v4_V dX0_goMoor_152 rfl rfl rfl (Nat.le_of_ble_eq_true rfl) (fun b hb => acm (hrec _ _ _ _ _ _ b hb) 2) (fun p152 => ?_)
          refine tq_iinc (v := (q.1 + 1)) (L' := [_, _, _, _, _, _]) dX0_goMoor_155 rfl (Nat.le_of_ble_eq_true rfl) rfl rfl ?_
          refine tq_goto dX0_goMoor_158 rfl ?_
          exact Bfy_B_goMoor_b63 hO _ _ _ _ _ _ _ ()
        · refine tq_goto dX0_goMoor_110 rfl ?_
          refine tq_iinc (v := (q.1 + 1)) (L' := [_, _, _, _, _, _]) dX0_goMoor_155 rfl (Nat.le_of_ble_eq_true rfl) rfl rfl ?_
          refine tq_goto dX0_goMoor_158 rfl ?_
          exact Bfy_B_goMoor_b63 hO _ _ _ _ _ _ _ ()
theorem Sfy_B_goMoor_b63 {G : ai_G} {d : Nat} {h0 : ai_H} (hO : hOld G h0) {α : Type} {P : α → Option ai_R → Prop} {rec : yS → Nat → Int32 → Int32 → Int32 → Int32 → Option (yS)} (hrec : ∀ (s : yS) (v0 : Nat) (v1 : Int32) (v2 : Int32) (v3 : Int32) (v4 : Int32) r, rec s v0 v1 v2 v3 v4 = some r → (PyV h0) r (ai_call G d 242 [.ref v0, .int v1, .int v2, .int v3, .int v4] (yH s h0))) (v0 : Nat) (v1 : Int32) (v2 : Int32) (v3 : Int32) (v4 : Int32) (b0 : Int32) (b1 : yS) (J : Unit) {r : yS → Option α} (kk : ∀ (q : yS) (J : JV), Tj G (d + 2) 242 P (r q) 161 [some (.ref v0), some (.int v1), some (.int v2), some (.int v3), some (.int v4), J.1] [] (yH q h0)) : Tj G (d + 2) 242 P ((lp (fy_B_goMoor_b63 G rec v0 v1 v2 v3 v4) (b0, b1)).bind r) 63 [some (.ref v0), some (.int v1), some (.int v2), some (.int v3), some (.int v4), some (.int b0)] [] (yH b1 h0) := tq_lp1 (J := J) (fun q J => wfy_B_goMoor_b63 hO hrec v0 v1 v2 v3 v4 q J) rfl rfl kk
theorem wfy_B_goMoor_j34 {G : ai_G} {d : Nat} {h0 : ai_H} (hO : hOld G h0) (j2 : JV) (j5 : JV) {rec : yS → Nat → Int32 → Int32 → Int32 → Int32 → Option (yS)} (hrec : ∀ (s : yS) (v0 : Nat) (v1 : Int32) (v2 : Int32) (v3 : Int32) (v4 : Int32) r, rec s v0 v1 v2 v3 v4 = some r → (PyV h0) r (ai_call G d 242 [.ref v0, .int v1, .int v2, .int v3, .int v4] (yH s h0)))   (s : yS) (v0 : Nat) (v1 : Int32) (v3 : Int32) (v4 : Int32): Tj G (d + 2) 242 (PyV h0) (fy_B_goMoor_j34 G rec s v0 v1 v3 v4) 34 [some (.ref v0), some (.int v1), j2.1, some (.int v3), some (.int v4), j5.1] [] (yH s h0) := by
  unfold fy_B_goMoor_j34
  refine tq_aload_n dX0_goMoor_34 rfl ?_
  refine tq_iload_n dX0_goMoor_35 rfl ?_
  refine ty_wI dX0_goMoor_36 rfl rfl rfl (fun s36 => ?_)
  refine tq_aload_n dX0_goMoor_39 rfl ?_
  refine tq_iload dX0_goMoor_40 rfl ?_
  refine ty_wI dX0_goMoor_42 rfl rfl rfl (fun s42 => ?_)
  refine tq_aload_n dX0_goMoor_45 rfl ?_
  refine ty_gR dX0_goMoor_46 rfl rfl (fun x46 => ?_)
  refine tq_iconst (v := 0) dX0_goMoor_49 (by decide) ?_
  refine tq_aload_n dX0_goMoor_50 rfl ?_
  refine ty_gR dX0_goMoor_51 rfl rfl (fun x51 => ?_)
  refine tq_iconst (v := 0) dX0_goMoor_54 (by decide) ?_
  refine tq_iload_n dX0_goMoor_55 rfl ?_
  refine ty_copyI dX0_goMoor_56 rfl (Nat.le_of_ble_eq_true rfl) (fun s56 => ?_)
  exact tq_return dX0_goMoor_59 rfl rfl
theorem wfy_B_goMoor {G : ai_G} {d : Nat} {h0 : ai_H} (hO : hOld G h0) {rec : yS → Nat → Int32 → Int32 → Int32 → Int32 → Option (yS)} (hrec : ∀ (s : yS) (v0 : Nat) (v1 : Int32) (v2 : Int32) (v3 : Int32) (v4 : Int32) r, rec s v0 v1 v2 v3 v4 = some r → (PyV h0) r (ai_call G d 242 [.ref v0, .int v1, .int v2, .int v3, .int v4] (yH s h0))) (s : yS) (v0 : Nat) (v1 : Int32) (v2 : Int32) (v3 : Int32) (v4 : Int32) : ∀ r, fy_B_goMoor G rec s v0 v1 v2 v3 v4 = some r → (PyV h0) r (ai_call G (d + 3) 242 [.ref v0, .int v1, .int v2, .int v3, .int v4] (yH s h0)) := by
  refine tq_meth (P := (PyV h0)) (d := (d + 2)) (Nat.le_of_ble_eq_true rfl) ?_
  show Tj G (d + 2) 242 (PyV h0) (fy_B_goMoor G rec s v0 v1 v2 v3 v4) 0 [some (.ref v0), some (.int v1), some (.int v2), some (.int v3), some (.int v4), none] [] (yH s h0)
  unfold fy_B_goMoor
  refine tq_iload_n dX0_goMoor_0 rfl ?_
  refine tq_aload_n dX0_goMoor_1 rfl ?_
  refine ty_v0_i dX0_goMoor_2 rfl rfl rfl (Nat.le_of_ble_eq_true rfl) (wfy_B_boards hO (d := d) _ _) (fun p2 => ?_)
  refine tq_icmp_ne dX0_goMoor_5 rfl ?_ ?_
  · refine tq_iconst (v := 0) dX0_goMoor_60 (by decide) ?_
    refine tq_istore (L' := [_, _, _, _, _, _]) dX0_goMoor_61 (Nat.le_of_ble_eq_true rfl) rfl ?_
    refine Sfy_B_goMoor_b63 hO hrec _ _ _ _ _ _ _ () (fun q63 J63 => ?_)
    refine tq_aload_n dX0_goMoor_161 rfl ?_
    refine ty_gR dX0_goMoor_162 rfl rfl (fun x162 => ?_)
    refine tq_iload_n dX0_goMoor_165 rfl ?_
    refine tq_iconst (v := (-1)) dX0_goMoor_166 (by decide) ?_
    refine ty_iast dX0_goMoor_167 (fun s167 => ?_)
    refine tq_aload_n dX0_goMoor_168 rfl ?_
    refine tq_iload_n dX0_goMoor_169 rfl ?_
    refine tq_iconst (v := 1) dX0_goMoor_170 (by decide) ?_
    refine tq_iadd dX0_goMoor_171 ?_
    refine tq_iload_n dX0_goMoor_172 rfl ?_
    refine tq_iload_n dX0_goMoor_173 rfl ?_
    refine tq_iload dX0_goMoor_174 rfl ?_
    refine ty_v4_V dX0_goMoor_176 rfl rfl rfl (Nat.le_of_ble_eq_true rfl) (fun b hb => acm (hrec _ _ _ _ _ _ b hb) 2) (fun p176 => ?_)
    exact tq_return dX0_goMoor_179 rfl rfl
  · refine tq_iload_n dX0_goMoor_8 rfl ?_
    refine tq_aload_n dX0_goMoor_9 rfl ?_
    refine ty_gI dX0_goMoor_10 rfl rfl (fun x10 => ?_)
    refine tq_icmp_lt dX0_goMoor_13 rfl ?_ ?_
    · exact tq_return dX0_goMoor_33 rfl rfl
    · refine tq_iload_n dX0_goMoor_16 rfl ?_
      refine tq_aload_n dX0_goMoor_17 rfl ?_
      refine ty_gI dX0_goMoor_18 rfl rfl (fun x18 => ?_)
      refine tq_icmp_ne dX0_goMoor_21 rfl ?_ ?_
      · exact wfy_B_goMoor_j34 hO ⟨some (.int v2), rfl⟩ ⟨none, rfl⟩ hrec _ _ _ _ _
      · refine tq_iload dX0_goMoor_24 rfl ?_
        refine tq_aload_n dX0_goMoor_26 rfl ?_
        refine ty_gI dX0_goMoor_27 rfl rfl (fun x27 => ?_)
        refine tq_icmp_lt dX0_goMoor_30 rfl ?_ ?_
        · exact wfy_B_goMoor_j34 hO ⟨some (.int v2), rfl⟩ ⟨none, rfl⟩ hrec _ _ _ _ _
        · exact tq_return dX0_goMoor_33 rfl rfl
theorem wfy_B_goMoor_N {G : ai_G} {d : Nat} {h0 : ai_H} (hO : hOld G h0) (n : Nat) : ∀ (s : yS) (v0 : Nat) (v1 : Int32) (v2 : Int32) (v3 : Int32) (v4 : Int32) r, fy_B_goMoor_N G n s v0 v1 v2 v3 v4 = some r → (PyV h0) r (ai_call G (d + 3 * n) 242 [.ref v0, .int v1, .int v2, .int v3, .int v4] (yH s h0)) := by
  induction n with
  | zero => intro s v0 v1 v2 v3 v4 r h1; cases h1
  | succ n ih => intro s v0 v1 v2 v3 v4 r h1; exact wfy_B_goMoor hO (d := d + 3 * n) ih s v0 v1 v2 v3 v4 r h1
abbrev Pfy_B_mooring_b13 (G : ai_G) (d : Nat) (h0 : ai_H) (v0 : Nat) (v1 : Int32) : (Int32 × yS) ⊕ yS → Option ai_R → Prop := Sum.elim (fun (q : Int32 × yS) run => ∃ J : Unit, run = ai_run G (d + 132) 243 13 [some (.ref v0), some (.int v1), some (.int q.1)] [] (yH q.2 h0)) (fun (q : yS) run => ∃ J : JV, run = ai_run G (d + 132) 243 54 [some (.ref v0), some (.int v1), J.1] [] (yH q h0))
theorem Bfy_B_mooring_b13 {G : ai_G} {d : Nat} {h0 : ai_H} (hO : hOld G h0) (v0 : Nat) (v1 : Int32) (b0 : Int32) (b1 : yS) (J : Unit) : Tj G (d + 132) 243 (Pfy_B_mooring_b13 G d h0 v0 v1) (some (.inl (b0, b1))) 13 [some (.ref v0), some (.int v1), some (.int b0)] [] (yH b1 h0) := tq_back J rfl rfl
theorem Efy_B_mooring_b13 {G : ai_G} {d : Nat} {h0 : ai_H} (hO : hOld G h0) (v0 : Nat) (v1 : Int32) (b0 : yS) (J : JV) : Tj G (d + 132) 243 (Pfy_B_mooring_b13 G d h0 v0 v1) (some (.inr b0)) 54 [some (.ref v0), some (.int v1), J.1] [] (yH b0 h0) := tq_exit J rfl rfl
theorem wfy_B_mooring_b13 {G : ai_G} {d : Nat} {h0 : ai_H} (hO : hOld G h0) (v0 : Nat) (v1 : Int32) (q : Int32 × yS) (J : Unit) : Tj G (d + 132) 243 (Pfy_B_mooring_b13 G d h0 v0 v1) (fy_B_mooring_b13 G v0 v1 q) 13 [some (.ref v0), some (.int v1), some (.int q.1)] [] (yH q.2 h0) := by
  unfold fy_B_mooring_b13
  refine tq_iload_n dX0_mooring_13 rfl ?_
  refine tq_aload_n dX0_mooring_14 rfl ?_
  refine ty_v0_i dX0_mooring_15 rfl rfl rfl (Nat.le_of_ble_eq_true rfl) (wfy_B_boards hO (d := d + 130) _ _) (fun p15 => ?_)
  refine tq_icmp_ge dX0_mooring_18 rfl ?_ ?_
  · exact Efy_B_mooring_b13 hO _ _ _ ⟨some (.int q.1), rfl⟩
  · refine tq_aload_n dX0_mooring_21 rfl ?_
    refine ty_gR dX0_mooring_22 rfl rfl (fun x22 => ?_)
    refine tq_iload_n dX0_mooring_25 rfl ?_
    refine tq_aload_n dX0_mooring_26 rfl ?_
    refine ty_gR dX0_mooring_27 rfl rfl (fun x27 => ?_)
    refine ty_gR dX0_mooring_30 rfl rfl (fun x30 => ?_)
    refine tq_iload_n dX0_mooring_33 rfl ?_
    refine ty_iald dX0_mooring_34 (fun x34 => ?_)
    refine tq_if_ne dX0_mooring_35 rfl ?_ ?_
    · refine tq_iconst (v := 0) dX0_mooring_46 (by decide) ?_
      refine ty_iast dX0_mooring_47 (fun s47 => ?_)
      refine tq_iinc (v := (q.1 + 1)) (L' := [_, _, _]) dX0_mooring_48 rfl (Nat.le_of_ble_eq_true rfl) rfl rfl ?_
      refine tq_goto dX0_mooring_51 rfl ?_
      exact Bfy_B_mooring_b13 hO _ _ _ _ ()
    · refine tq_aload_n dX0_mooring_38 rfl ?_
      refine tq_iload_n dX0_mooring_39 rfl ?_
      refine ty_v1_I dX0_mooring_40 rfl rfl rfl (Nat.le_of_ble_eq_true rfl) (wfy_B_landingsOf hO (d := d) _ _ _) (fun p40 => ?_)
      refine tq_goto dX0_mooring_43 rfl ?_
      refine ty_iast dX0_mooring_47 (fun s47 => ?_)
      refine tq_iinc (v := (q.1 + 1)) (L' := [_, _, _]) dX0_mooring_48 rfl (Nat.le_of_ble_eq_true rfl) rfl rfl ?_
      refine tq_goto dX0_mooring_51 rfl ?_
      exact Bfy_B_mooring_b13 hO _ _ _ _ ()
theorem Sfy_B_mooring_b13 {G : ai_G} {d : Nat} {h0 : ai_H} (hO : hOld G h0) {α : Type} {P : α → Option ai_R → Prop} (v0 : Nat) (v1 : Int32) (b0 : Int32) (b1 : yS) (J : Unit) {r : yS → Option α} (kk : ∀ (q : yS) (J : JV), Tj G (d + 132) 243 P (r q) 54 [some (.ref v0), some (.int v1), J.1] [] (yH q h0)) : Tj G (d + 132) 243 P ((lp (fy_B_mooring_b13 G v0 v1) (b0, b1)).bind r) 13 [some (.ref v0), some (.int v1), some (.int b0)] [] (yH b1 h0) := tq_lp1 (J := J) (fun q J => wfy_B_mooring_b13 hO v0 v1 q J) rfl rfl kk
theorem wfy_B_mooring {G : ai_G} {d : Nat} {h0 : ai_H} (hO : hOld G h0) (s : yS) (v0 : Nat) (v1 : Int32) : ∀ r, fy_B_mooring G s v0 v1 = some r → (PyI h0) r (ai_call G (d + 133) 243 [.ref v0, .int v1] (yH s h0)) := by
  refine tq_meth (P := (PyI h0)) (d := (d + 132)) (Nat.le_of_ble_eq_true rfl) ?_
  show Tj G (d + 132) 243 (PyI h0) (fy_B_mooring G s v0 v1) 0 [some (.ref v0), some (.int v1), none] [] (yH s h0)
  unfold fy_B_mooring
  refine tq_iload_n dX0_mooring_0 rfl ?_
  refine tq_iconst (v := 0) dX0_mooring_1 (by decide) ?_
  refine tq_iconst (v := 1) dX0_mooring_2 (by decide) ?_
  refine ty_s3_pi dX0_mooring_3 rfl rfl rfl (Nat.le_of_ble_eq_true rfl) (wfy_B_isIn (d := d + 131) _ _ _) (fun p3 => ?_)
  refine tq_if_ne dX0_mooring_6 rfl ?_ ?_
  · refine tq_iconst (v := 0) dX0_mooring_11 (by decide) ?_
    refine tq_istore_n (L' := [_, _, _]) dX0_mooring_12 (Nat.le_of_ble_eq_true rfl) rfl ?_
    refine Sfy_B_mooring_b13 hO _ _ _ _ () (fun q13 J13 => ?_)
    refine tq_aload_n dX0_mooring_54 rfl ?_
    refine tq_iconst (v := (-1)) dX0_mooring_55 (by decide) ?_
    refine ty_wI dX0_mooring_56 rfl rfl rfl (fun s56 => ?_)
    refine tq_aload_n dX0_mooring_59 rfl ?_
    refine tq_iconst (v := 0) dX0_mooring_60 (by decide) ?_
    refine tq_iconst (v := 0) dX0_mooring_61 (by decide) ?_
    refine tq_iconst (v := 0) dX0_mooring_62 (by decide) ?_
    refine tq_iconst (v := 0) dX0_mooring_63 (by decide) ?_
    refine ty_v4_V dX0_mooring_64 rfl rfl rfl (Nat.le_of_ble_eq_true rfl) (fun b hb => acm (wfy_B_goMoor_N hO 6 _ _ _ _ _ _ b hb) 114) (fun p64 => ?_)
    refine tq_aload_n dX0_mooring_67 rfl ?_
    refine tq_aload_n dX0_mooring_68 rfl ?_
    refine ty_v0_i dX0_mooring_69 rfl rfl rfl (Nat.le_of_ble_eq_true rfl) (wfy_B_boards hO (d := d + 130) _ _) (fun p69 => ?_)
    refine ty_wI dX0_mooring_72 rfl rfl rfl (fun s72 => ?_)
    refine tq_iload_n dX0_mooring_75 rfl ?_
    refine tq_if_ne dX0_mooring_76 rfl ?_ ?_
    · refine tq_aload_n dX0_mooring_86 rfl ?_
      refine ty_gI dX0_mooring_87 rfl rfl (fun x87 => ?_)
      exact tq_ireturn dX0_mooring_90 rfl rfl
    · refine tq_aload_n dX0_mooring_79 rfl ?_
      refine ty_gI dX0_mooring_80 rfl rfl (fun x80 => ?_)
      refine tq_goto dX0_mooring_83 rfl ?_
      exact tq_ireturn dX0_mooring_90 rfl rfl
  · refine tq_iconst (v := (-1)) dX0_mooring_9 (by decide) ?_
    exact tq_ireturn dX0_mooring_10 rfl rfl
theorem wfy_B_good_j11 {G : ai_G} {d : Nat} {h0 : ai_H} (hO : hOld G h0) (j3 : JV)   (s : yS) (v0 : Nat) (v1 : Int32) (v2 : Int32) (t0 : Int32): Tj G d 247 (Pi (yH s h0)) (fy_B_good_j11 G s v0 v1 v2 t0) 11 [some (.ref v0), some (.int v1), some (.int v2), j3.1] [.int t0] (yH s h0) := by
  unfold fy_B_good_j11
  refine tq_iload_n dX0_good_11 rfl ?_
  refine tq_aload_n dX0_good_12 rfl ?_
  refine ty_gR dX0_good_13 rfl rfl (fun x13 => ?_)
  refine ty_gR dX0_good_16 rfl rfl (fun x16 => ?_)
  refine tq_iload_n dX0_good_19 rfl ?_
  refine ty_iald dX0_good_20 (fun x20 => ?_)
  refine tq_isub dX0_good_21 ?_
  refine tq_iabs dX0_good_22 rfl rfl rfl rfl (Nat.le_of_ble_eq_true rfl) ?_
  refine tq_isub dX0_good_25 ?_
  exact tq_ireturn dX0_good_26 rfl rfl
theorem wfy_B_good {G : ai_G} {d : Nat} {h0 : ai_H} (hO : hOld G h0) (s : yS) (v0 : Nat) (v1 : Int32) (v2 : Int32) (v3 : Int32) : ∀ r, fy_B_good G s v0 v1 v2 v3 = some r → (Pi (yH s h0)) r (ai_call G (d + 1) 247 [.ref v0, .int v1, .int v2, .int v3] (yH s h0)) := by
  refine tq_meth (P := (Pi (yH s h0))) (d := d) (Nat.le_of_ble_eq_true rfl) ?_
  show Tj G d 247 (Pi (yH s h0)) (fy_B_good G s v0 v1 v2 v3) 0 [some (.ref v0), some (.int v1), some (.int v2), some (.int v3)] [] (yH s h0)
  unfold fy_B_good
  refine tq_iload_n dX0_good_0 rfl ?_
  refine tq_iload_n dX0_good_1 rfl ?_
  refine tq_icmp_ne dX0_good_2 rfl ?_ ?_
  · refine tq_bipush (v := 9) dX0_good_9 (by decide) ?_
    exact wfy_B_good_j11 hO ⟨some (.int v3), rfl⟩ _ _ _ _ _
  · refine tq_iconst (v := 3) dX0_good_5 (by decide) ?_
    refine tq_goto dX0_good_6 rfl ?_
    exact wfy_B_good_j11 hO ⟨some (.int v3), rfl⟩ _ _ _ _ _
abbrev Pfy_B_rests_b3 (G : ai_G) (d : Nat) (h0 : ai_H) (s : yS) (v0 : Nat) (v1 : Int32) (v2 : Int32) (v3 : Int32) (v4 : Int32) (v5 : Int32) (v6 : Int32) : Int32 ⊕ (Unit ⊕ Int32) → Option ai_R → Prop := Sum.elim (fun (q : Int32) run => ∃ J : Unit, run = ai_run G (d + 1) 248 3 [some (.ref v0), some (.int v1), some (.int v2), some (.int v3), some (.int v4), some (.int v5), some (.int v6), some (.int q)] [] (yH s h0)) (Sum.elim (fun (q : Unit) run => ∃ J : JV × JV × JV × JV × JV × JV × JV × JV, run = ai_run G (d + 1) 248 82 [J.1.1, J.2.1.1, J.2.2.1.1, J.2.2.2.1.1, J.2.2.2.2.1.1, J.2.2.2.2.2.1.1, J.2.2.2.2.2.2.1.1, J.2.2.2.2.2.2.2.1] [] (yH s h0)) (Pi (yH s h0)))
theorem Bfy_B_rests_b3 {G : ai_G} {d : Nat} {h0 : ai_H} (hO : hOld G h0) (s : yS) (v0 : Nat) (v1 : Int32) (v2 : Int32) (v3 : Int32) (v4 : Int32) (v5 : Int32) (v6 : Int32) (b0 : Int32) (J : Unit) : Tj G (d + 1) 248 (Pfy_B_rests_b3 G d h0 s v0 v1 v2 v3 v4 v5 v6) (some (.inl b0)) 3 [some (.ref v0), some (.int v1), some (.int v2), some (.int v3), some (.int v4), some (.int v5), some (.int v6), some (.int b0)] [] (yH s h0) := tq_back J rfl rfl
theorem Efy_B_rests_b3 {G : ai_G} {d : Nat} {h0 : ai_H} (hO : hOld G h0) (s : yS) (v0 : Nat) (v1 : Int32) (v2 : Int32) (v3 : Int32) (v4 : Int32) (v5 : Int32) (v6 : Int32)  (J : JV × JV × JV × JV × JV × JV × JV × JV) : Tj G (d + 1) 248 (Pfy_B_rests_b3 G d h0 s v0 v1 v2 v3 v4 v5 v6) (some (.inr (.inl ()))) 82 [J.1.1, J.2.1.1, J.2.2.1.1, J.2.2.2.1.1, J.2.2.2.2.1.1, J.2.2.2.2.2.1.1, J.2.2.2.2.2.2.1.1, J.2.2.2.2.2.2.2.1] [] (yH s h0) := tq_exit2 J rfl rfl
theorem wfy_B_rests_j45 {G : ai_G} {d : Nat} {h0 : ai_H} (hO : hOld G h0)    (s : yS) (v0 : Nat) (v1 : Int32) (v2 : Int32) (v3 : Int32) (v4 : Int32) (v5 : Int32) (v6 : Int32) (v7 : Int32): Tj G (d + 1) 248 (Pfy_B_rests_b3 G d h0 s v0 v1 v2 v3 v4 v5 v6) (fy_B_rests_j45 G s v0 v1 v2 v3 v4 v5 v6 v7) 45 [some (.ref v0), some (.int v1), some (.int v2), some (.int v3), some (.int v4), some (.int v5), some (.int v6), some (.int v7)] [] (yH s h0) := by
  unfold fy_B_rests_j45
  refine tq_iload dX0_rests_45 rfl ?_
  refine tq_iload dX0_rests_47 rfl ?_
  refine ty_s2_pi dX0_rests_49 rfl rfl rfl (Nat.le_of_ble_eq_true rfl) (wfy_B_has (d := d) _ _) (fun p49 => ?_)
  refine tq_if_eq dX0_rests_52 rfl ?_ ?_
  · refine tq_iinc (v := (v7 + 1)) (L' := [_, _, _, _, _, _, _, _]) dX0_rests_76 rfl (Nat.le_of_ble_eq_true rfl) rfl rfl ?_
    refine tq_goto dX0_rests_79 rfl ?_
    exact Bfy_B_rests_b3 hO _ _ _ _ _ _ _ _ _ ()
  · refine tq_aload_n dX0_rests_55 rfl ?_
    refine tq_iload_n dX0_rests_56 rfl ?_
    refine tq_iload dX0_rests_57 rfl ?_
    refine tq_iload_n dX0_rests_59 rfl ?_
    refine ty_v3_i dX0_rests_60 rfl rfl rfl (Nat.le_of_ble_eq_true rfl) (wfy_B_good hO (d := d) _ _ _ _ _) (fun p60 => ?_)
    refine tq_aload_n dX0_rests_63 rfl ?_
    refine tq_iload_n dX0_rests_64 rfl ?_
    refine tq_iload dX0_rests_65 rfl ?_
    refine tq_iload_n dX0_rests_67 rfl ?_
    refine ty_v3_i dX0_rests_68 rfl rfl rfl (Nat.le_of_ble_eq_true rfl) (wfy_B_good hO (d := d) _ _ _ _ _) (fun p68 => ?_)
    refine tq_icmp_le dX0_rests_71 rfl ?_ ?_
    · refine tq_iinc (v := (v7 + 1)) (L' := [_, _, _, _, _, _, _, _]) dX0_rests_76 rfl (Nat.le_of_ble_eq_true rfl) rfl rfl ?_
      refine tq_goto dX0_rests_79 rfl ?_
      exact Bfy_B_rests_b3 hO _ _ _ _ _ _ _ _ _ ()
    · refine tq_iconst (v := 0) dX0_rests_74 (by decide) ?_
      exact tq_ireturn dX0_rests_75 (by decide) rfl
theorem wfy_B_rests_b3 {G : ai_G} {d : Nat} {h0 : ai_H} (hO : hOld G h0) (s : yS) (v0 : Nat) (v1 : Int32) (v2 : Int32) (v3 : Int32) (v4 : Int32) (v5 : Int32) (v6 : Int32) (q : Int32) (J : Unit) : Tj G (d + 1) 248 (Pfy_B_rests_b3 G d h0 s v0 v1 v2 v3 v4 v5 v6) (fy_B_rests_b3 G s v0 v1 v2 v3 v4 v5 v6 q) 3 [some (.ref v0), some (.int v1), some (.int v2), some (.int v3), some (.int v4), some (.int v5), some (.int v6), some (.int q)] [] (yH s h0) := by
  unfold fy_B_rests_b3
  refine tq_iload dX0_rests_3 rfl ?_
  refine tq_aload_n dX0_rests_5 rfl ?_
  refine ty_gR dX0_rests_6 rfl rfl (fun x6 => ?_)
  refine ty_gI dX0_rests_9 rfl rfl (fun x9 => ?_)
  refine tq_icmp_ge dX0_rests_12 rfl ?_ ?_
  · exact Efy_B_rests_b3 hO _ _ _ _ _ _ _ _ (⟨some (.ref v0), rfl⟩, ⟨some (.int v1), rfl⟩, ⟨some (.int v2), rfl⟩, ⟨some (.int v3), rfl⟩, ⟨some (.int v4), rfl⟩, ⟨some (.int v5), rfl⟩, ⟨some (.int v6), rfl⟩, ⟨some (.int q), rfl⟩)
  · refine tq_iload dX0_rests_15 rfl ?_
    refine tq_iload dX0_rests_17 rfl ?_
    refine ty_s2_pi dX0_rests_19 rfl rfl rfl (Nat.le_of_ble_eq_true rfl) (wfy_B_has (d := d) _ _) (fun p19 => ?_)
    refine tq_if_eq dX0_rests_22 rfl ?_ ?_
    · exact wfy_B_rests_j45 hO _ _ _ _ _ _ _ _ _
    · refine tq_aload_n dX0_rests_25 rfl ?_
      refine tq_iload_n dX0_rests_26 rfl ?_
      refine tq_iload dX0_rests_27 rfl ?_
      refine tq_iload dX0_rests_29 rfl ?_
      refine ty_v3_i dX0_rests_31 rfl rfl rfl (Nat.le_of_ble_eq_true rfl) (wfy_B_good hO (d := d) _ _ _ _ _) (fun p31 => ?_)
      refine tq_aload_n dX0_rests_34 rfl ?_
      refine tq_iload_n dX0_rests_35 rfl ?_
      refine tq_iload_n dX0_rests_36 rfl ?_
      refine tq_iload dX0_rests_37 rfl ?_
      refine ty_v3_i dX0_rests_39 rfl rfl rfl (Nat.le_of_ble_eq_true rfl) (wfy_B_good hO (d := d) _ _ _ _ _) (fun p39 => ?_)
      refine tq_icmp_gt dX0_rests_42 rfl ?_ ?_
      · refine tq_iconst (v := 0) dX0_rests_74 (by decide) ?_
        exact tq_ireturn dX0_rests_75 (by decide) rfl
      · exact wfy_B_rests_j45 hO _ _ _ _ _ _ _ _ _
theorem Sfy_B_rests_b3 {G : ai_G} {d : Nat} {h0 : ai_H} (hO : hOld G h0) {α : Type} {P : α → Option ai_R → Prop} (s : yS) (v0 : Nat) (v1 : Int32) (v2 : Int32) (v3 : Int32) (v4 : Int32) (v5 : Int32) (v6 : Int32) (b0 : Int32) (J : Unit) {r : Unit → Option α} {r2 : Int32 → Option α} (k2 : ∀ v run, (Pi (yH s h0)) v run → ∀ a, r2 v = some a → P a run) (kk : ∀ (q : Unit) (J : JV × JV × JV × JV × JV × JV × JV × JV), Tj G (d + 1) 248 P (r q) 82 [J.1.1, J.2.1.1, J.2.2.1.1, J.2.2.2.1.1, J.2.2.2.2.1.1, J.2.2.2.2.2.1.1, J.2.2.2.2.2.2.1.1, J.2.2.2.2.2.2.2.1] [] (yH s h0)) : Tj G (d + 1) 248 P ((lp (fy_B_rests_b3 G s v0 v1 v2 v3 v4 v5 v6) b0).bind (Sum.elim r r2)) 3 [some (.ref v0), some (.int v1), some (.int v2), some (.int v3), some (.int v4), some (.int v5), some (.int v6), some (.int b0)] [] (yH s h0) := tq_lp2 (J := J) (fun q J => wfy_B_rests_b3 hO s v0 v1 v2 v3 v4 v5 v6 q J) rfl rfl k2 kk
theorem wfy_B_rests {G : ai_G} {d : Nat} {h0 : ai_H} (hO : hOld G h0) (s : yS) (v0 : Nat) (v1 : Int32) (v2 : Int32) (v3 : Int32) (v4 : Int32) (v5 : Int32) (v6 : Int32) : ∀ r, fy_B_rests G s v0 v1 v2 v3 v4 v5 v6 = some r → (Pi (yH s h0)) r (ai_call G (d + 2) 248 [.ref v0, .int v1, .int v2, .int v3, .int v4, .int v5, .int v6] (yH s h0)) := by
  refine tq_meth (P := (Pi (yH s h0))) (d := (d + 1)) (Nat.le_of_ble_eq_true rfl) ?_
  show Tj G (d + 1) 248 (Pi (yH s h0)) (fy_B_rests G s v0 v1 v2 v3 v4 v5 v6) 0 [some (.ref v0), some (.int v1), some (.int v2), some (.int v3), some (.int v4), some (.int v5), some (.int v6), none] [] (yH s h0)
  unfold fy_B_rests
  refine tq_iconst (v := 0) dX0_rests_0 (by decide) ?_
  refine tq_istore (L' := [_, _, _, _, _, _, _, _]) dX0_rests_1 (Nat.le_of_ble_eq_true rfl) rfl ?_
  refine Sfy_B_rests_b3 hO _ _ _ _ _ _ _ _ _ () (fun v run hv a ha => by cases ha; exact hv) (fun q3 J3 => ?_)
  refine tq_iconst (v := 1) dX0_rests_82 (by decide) ?_
  exact tq_ireturn dX0_rests_83 (by decide) rfl
abbrev Pfy_B_guests_b58 (G : ai_G) (d : Nat) (h0 : ai_H) (v0 : Nat) (v1 : Int32) (v2 : Int32) (v3 : Int32) (v4 : Int32) : (Int32 × Int32 × yS) ⊕ (Int32 × yS) → Option ai_R → Prop := Sum.elim (fun (q : Int32 × Int32 × yS) run => ∃ J : JV, run = ai_run G (d + 132) 249 58 [some (.ref v0), some (.int v1), some (.int v2), some (.int v3), some (.int v4), some (.int q.1), some (.int q.2.1), J.1] [] (yH q.2.2 h0)) (fun (q : Int32 × yS) run => ∃ J : JV × JV × JV × JV × JV × JV × JV, run = ai_run G (d + 132) 249 168 [J.1.1, J.2.1.1, J.2.2.1.1, J.2.2.2.1.1, J.2.2.2.2.1.1, some (.int q.1), J.2.2.2.2.2.1.1, J.2.2.2.2.2.2.1] [] (yH q.2 h0))
theorem Bfy_B_guests_b58 {G : ai_G} {d : Nat} {h0 : ai_H} (hO : hOld G h0) (v0 : Nat) (v1 : Int32) (v2 : Int32) (v3 : Int32) (v4 : Int32) (b0 : Int32) (b1 : Int32) (b2 : yS) (J : JV) : Tj G (d + 132) 249 (Pfy_B_guests_b58 G d h0 v0 v1 v2 v3 v4) (some (.inl (b0, b1, b2))) 58 [some (.ref v0), some (.int v1), some (.int v2), some (.int v3), some (.int v4), some (.int b0), some (.int b1), J.1] [] (yH b2 h0) := tq_back J rfl rfl
theorem Efy_B_guests_b58 {G : ai_G} {d : Nat} {h0 : ai_H} (hO : hOld G h0) (v0 : Nat) (v1 : Int32) (v2 : Int32) (v3 : Int32) (v4 : Int32) (b0 : Int32) (b1 : yS) (J : JV × JV × JV × JV × JV × JV × JV) : Tj G (d + 132) 249 (Pfy_B_guests_b58 G d h0 v0 v1 v2 v3 v4) (some (.inr (b0, b1))) 168 [J.1.1, J.2.1.1, J.2.2.1.1, J.2.2.2.1.1, J.2.2.2.2.1.1, some (.int b0), J.2.2.2.2.2.1.1, J.2.2.2.2.2.2.1] [] (yH b1 h0) := tq_exit J rfl rfl
abbrev Pfy_B_guests_b73 (G : ai_G) (d : Nat) (h0 : ai_H) (v0 : Nat) (v1 : Int32) (v2 : Int32) (v3 : Int32) (v4 : Int32) (v6 : Int32) : (Int32 × Int32 × yS) ⊕ (Int32 × yS) → Option ai_R → Prop := Sum.elim (fun (q : Int32 × Int32 × yS) run => ∃ J : Unit, run = ai_run G (d + 132) 249 73 [some (.ref v0), some (.int v1), some (.int v2), some (.int v3), some (.int v4), some (.int q.1), some (.int v6), some (.int q.2.1)] [] (yH q.2.2 h0)) (fun (q : Int32 × yS) run => ∃ J : JV, run = ai_run G (d + 132) 249 162 [some (.ref v0), some (.int v1), some (.int v2), some (.int v3), some (.int v4), some (.int q.1), some (.int v6), J.1] [] (yH q.2 h0))
theorem Bfy_B_guests_b73 {G : ai_G} {d : Nat} {h0 : ai_H} (hO : hOld G h0) (v0 : Nat) (v1 : Int32) (v2 : Int32) (v3 : Int32) (v4 : Int32) (v6 : Int32) (b0 : Int32) (b1 : Int32) (b2 : yS) (J : Unit) : Tj G (d + 132) 249 (Pfy_B_guests_b73 G d h0 v0 v1 v2 v3 v4 v6) (some (.inl (b0, b1, b2))) 73 [some (.ref v0), some (.int v1), some (.int v2), some (.int v3), some (.int v4), some (.int b0), some (.int v6), some (.int b1)] [] (yH b2 h0) := tq_back J rfl rfl
theorem Efy_B_guests_b73 {G : ai_G} {d : Nat} {h0 : ai_H} (hO : hOld G h0) (v0 : Nat) (v1 : Int32) (v2 : Int32) (v3 : Int32) (v4 : Int32) (v6 : Int32) (b0 : Int32) (b1 : yS) (J : JV) : Tj G (d + 132) 249 (Pfy_B_guests_b73 G d h0 v0 v1 v2 v3 v4 v6) (some (.inr (b0, b1))) 162 [some (.ref v0), some (.int v1), some (.int v2), some (.int v3), some (.int v4), some (.int b0), some (.int v6), J.1] [] (yH b1 h0) := tq_exit J rfl rfl
theorem wfy_B_guests_b73 {G : ai_G} {d : Nat} {h0 : ai_H} (hO : hOld G h0) (v0 : Nat) (v1 : Int32) (v2 : Int32) (v3 : Int32) (v4 : Int32) (v6 : Int32) (q : Int32 × Int32 × yS) (J : Unit) : Tj G (d + 132) 249 (Pfy_B_guests_b73 G d h0 v0 v1 v2 v3 v4 v6) (fy_B_guests_b73 G v0 v1 v2 v3 v4 v6 q) 73 [some (.ref v0), some (.int v1), some (.int v2), some (.int v3), some (.int v4), some (.int q.1), some (.int v6), some (.int q.2.1)] [] (yH q.2.2 h0) := by
  unfold fy_B_guests_b73
  refine tq_iload dX0_guests_73 rfl ?_
  refine tq_aload_n dX0_guests_75 rfl ?_
  refine ty_gR dX0_guests_76 rfl rfl (fun x76 => ?_)
  refine ty_gI dX0_guests_79 rfl rfl (fun x79 => ?_)
  refine tq_icmp_ge dX0_guests_82 rfl ?_ ?_
  · exact Efy_B_guests_b73 hO _ _ _ _ _ _ _ _ ⟨some (.int q.2.1), rfl⟩
  · refine tq_iload_n dX0_guests_85 rfl ?_
    refine tq_iload dX0_guests_86 rfl ?_
    refine ty_s2_pi dX0_guests_88 rfl rfl rfl (Nat.le_of_ble_eq_true rfl) (wfy_B_has (d := d + 131) _ _) (fun p88 => ?_)
    refine tq_if_eq dX0_guests_91 rfl ?_ ?_
    · refine tq_iinc (v := (q.2.1 + 1)) (L' := [_, _, _, _, _, _, _, _]) dX0_guests_156 rfl (Nat.le_of_ble_eq_true rfl) rfl rfl ?_
      refine tq_goto dX0_guests_159 rfl ?_
      exact Bfy_B_guests_b73 hO _ _ _ _ _ _ _ _ _ ()
    · refine tq_iload dX0_guests_94 rfl ?_
      refine tq_iload dX0_guests_96 rfl ?_
      refine ty_s2_pi dX0_guests_98 rfl rfl rfl (Nat.le_of_ble_eq_true rfl) (wfy_B_has (d := d + 131) _ _) (fun p98 => ?_)
      refine tq_if_eq dX0_guests_101 rfl ?_ ?_
      · refine tq_iinc (v := (q.2.1 + 1)) (L' := [_, _, _, _, _, _, _, _]) dX0_guests_156 rfl (Nat.le_of_ble_eq_true rfl) rfl rfl ?_
        refine tq_goto dX0_guests_159 rfl ?_
        exact Bfy_B_guests_b73 hO _ _ _ _ _ _ _ _ _ ()
      · refine tq_aload_n dX0_guests_104 rfl ?_
        refine tq_iload_n dX0_guests_105 rfl ?_
        refine tq_iload_n dX0_guests_106 rfl ?_
        refine tq_iload dX0_guests_107 rfl ?_
        refine tq_iload dX0_guests_109 rfl ?_
        refine tq_iload_n dX0_guests_111 rfl ?_
        refine tq_iload dX0_guests_112 rfl ?_
        refine ty_v6_i dX0_guests_114 rfl rfl rfl (Nat.le_of_ble_eq_true rfl) (wfy_B_rests hO (d := d + 130) _ _ _ _ _ _ _ _) (fun p114 => ?_)
        refine tq_if_ne dX0_guests_117 rfl ?_ ?_
        · refine tq_iinc (v := (q.1 + 1)) (L' := [_, _, _, _, _, _, _, _]) dX0_guests_123 rfl (Nat.le_of_ble_eq_true rfl) rfl rfl ?_
          refine tq_iload dX0_guests_126 rfl ?_
          refine tq_iconst (v := 1) dX0_guests_128 (by decide) ?_
          refine tq_icmp_le dX0_guests_129 rfl ?_ ?_
          · refine tq_aload_n dX0_guests_135 rfl ?_
            refine ty_gR dX0_guests_136 rfl rfl (fun x136 => ?_)
            refine tq_iconst (v := 0) dX0_guests_139 (by decide) ?_
            refine tq_iload dX0_guests_140 rfl ?_
            refine ty_iast dX0_guests_142 (fun s142 => ?_)
            refine tq_aload_n dX0_guests_143 rfl ?_
            refine ty_gR dX0_guests_144 rfl rfl (fun x144 => ?_)
            refine tq_iconst (v := 1) dX0_guests_147 (by decide) ?_
            refine tq_iload dX0_guests_148 rfl ?_
            refine ty_iast dX0_guests_150 (fun s150 => ?_)
            refine tq_aload_n dX0_guests_151 rfl ?_
            refine tq_iconst (v := 2) dX0_guests_152 (by decide) ?_
            refine ty_wI dX0_guests_153 rfl rfl rfl (fun s153 => ?_)
            refine tq_iinc (v := (q.2.1 + 1)) (L' := [_, _, _, _, _, _, _, _]) dX0_guests_156 rfl (Nat.le_of_ble_eq_true rfl) rfl rfl ?_
            refine tq_goto dX0_guests_159 rfl ?_
            exact Bfy_B_guests_b73 hO _ _ _ _ _ _ _ _ _ ()
          · refine tq_goto dX0_guests_132 rfl ?_
            refine tq_iinc (v := (q.2.1 + 1)) (L' := [_, _, _, _, _, _, _, _]) dX0_guests_156 rfl (Nat.le_of_ble_eq_true rfl) rfl rfl ?_
            refine tq_goto dX0_guests_159 rfl ?_
            exact Bfy_B_guests_b73 hO _ _ _ _ _ _ _ _ _ ()
        · refine tq_goto dX0_guests_120 rfl ?_
          refine tq_iinc (v := (q.2.1 + 1)) (L' := [_, _, _, _, _, _, _, _]) dX0_guests_156 rfl (Nat.le_of_ble_eq_true rfl) rfl rfl ?_
          refine tq_goto dX0_guests_159 rfl ?_
          exact Bfy_B_guests_b73 hO _ _ _ _ _ _ _ _ _ ()
theorem Sfy_B_guests_b73 {G : ai_G} {d : Nat} {h0 : ai_H} (hO : hOld G h0) {α : Type} {P : α → Option ai_R → Prop} (v0 : Nat) (v1 : Int32) (v2 : Int32) (v3 : Int32) (v4 : Int32) (v6 : Int32) (b0 : Int32) (b1 : Int32) (b2 : yS) (J : Unit) {r : (Int32 × yS) → Option α} (kk : ∀ (q : Int32 × yS) (J : JV), Tj G (d + 132) 249 P (r q) 162 [some (.ref v0), some (.int v1), some (.int v2), some (.int v3), some (.int v4), some (.int q.1), some (.int v6), J.1] [] (yH q.2 h0)) : Tj G (d + 132) 249 P ((lp (fy_B_guests_b73 G v0 v1 v2 v3 v4 v6) (b0, b1, b2)).bind r) 73 [some (.ref v0), some (.int v1), some (.int v2), some (.int v3), some (.int v4), some (.int b0), some (.int v6), some (.int b1)] [] (yH b2 h0) := tq_lp1 (J := J) (fun q J => wfy_B_guests_b73 hO v0 v1 v2 v3 v4 v6 q J) rfl rfl kk
theorem wfy_B_guests_b58 {G : ai_G} {d : Nat} {h0 : ai_H} (hO : hOld G h0) (v0 : Nat) (v1 : Int32) (v2 : Int32) (v3 : Int32) (v4 : Int32) (q : Int32 × Int32 × yS) (J : JV) : Tj G (d + 132) 249 (Pfy_B_guests_b58 G d h0 v0 v1 v2 v3 v4) (fy_B_guests_b58 G v0 v1 v2 v3 v4 q) 58 [some (.ref v0), some (.int v1), some (.int v2), some (.int v3), some (.int v4), some (.int q.1), some (.int q.2.1), J.1] [] (yH q.2.2 h0) := by
  unfold fy_B_guests_b58
  refine tq_iload dX0_guests_58 rfl ?_
  refine tq_aload_n dX0_guests_60 rfl ?_
  refine ty_gR dX0_guests_61 rfl rfl (fun x61 => ?_)
  refine ty_gI dX0_guests_64 rfl rfl (fun x64 => ?_)
  refine tq_icmp_ge dX0_guests_67 rfl ?_ ?_
  · exact Efy_B_guests_b58 hO _ _ _ _ _ _ _ (⟨some (.ref v0), rfl⟩, ⟨some (.int v1), rfl⟩, ⟨some (.int v2), rfl⟩, ⟨some (.int v3), rfl⟩, ⟨some (.int v4), rfl⟩, ⟨some (.int q.2.1), rfl⟩, J)
  · refine tq_iconst (v := 0) dX0_guests_70 (by decide) ?_
    refine tq_istore (L' := [_, _, _, _, _, _, _, _]) dX0_guests_71 (Nat.le_of_ble_eq_true rfl) rfl ?_
    refine Sfy_B_guests_b73 hO _ _ _ _ _ _ _ _ _ () (fun q73 J73 => ?_)
    refine tq_iinc (v := (q.2.1 + 1)) (L' := [_, _, _, _, _, _, _, _]) dX0_guests_162 rfl (Nat.le_of_ble_eq_true rfl) rfl rfl ?_
    refine tq_goto dX0_guests_165 rfl ?_
    exact Bfy_B_guests_b58 hO _ _ _ _ _ _ _ _ J73
theorem Sfy_B_guests_b58 {G : ai_G} {d : Nat} {h0 : ai_H} (hO : hOld G h0) {α : Type} {P : α → Option ai_R → Prop} (v0 : Nat) (v1 : Int32) (v2 : Int32) (v3 : Int32) (v4 : Int32) (b0 : Int32) (b1 : Int32) (b2 : yS) (J : JV) {r : (Int32 × yS) → Option α} (kk : ∀ (q : Int32 × yS) (J : JV × JV × JV × JV × JV × JV × JV), Tj G (d + 132) 249 P (r q) 168 [J.1.1, J.2.1.1, J.2.2.1.1, J.2.2.2.1.1, J.2.2.2.2.1.1, some (.int q.1), J.2.2.2.2.2.1.1, J.2.2.2.2.2.2.1] [] (yH q.2 h0)) : Tj G (d + 132) 249 P ((lp (fy_B_guests_b58 G v0 v1 v2 v3 v4) (b0, b1, b2)).bind r) 58 [some (.ref v0), some (.int v1), some (.int v2), some (.int v3), some (.int v4), some (.int b0), some (.int b1), J.1] [] (yH b2 h0) := tq_lp1 (J := J) (fun q J => wfy_B_guests_b58 hO v0 v1 v2 v3 v4 q J) rfl rfl kk
theorem wfy_B_guests {G : ai_G} {d : Nat} {h0 : ai_H} (hO : hOld G h0) (s : yS) (v0 : Nat) (v1 : Int32) (v2 : Int32) : ∀ r, fy_B_guests G s v0 v1 v2 = some r → (PyI h0) r (ai_call G (d + 133) 249 [.ref v0, .int v1, .int v2] (yH s h0)) := by
  refine tq_meth (P := (PyI h0)) (d := (d + 132)) (Nat.le_of_ble_eq_true rfl) ?_
  show Tj G (d + 132) 249 (PyI h0) (fy_B_guests G s v0 v1 v2) 0 [some (.ref v0), some (.int v1), some (.int v2), none, none, none, none, none] [] (yH s h0)
  unfold fy_B_guests
  refine tq_aload_n dX0_guests_0 rfl ?_
  refine tq_iconst (v := 0) dX0_guests_1 (by decide) ?_
  refine ty_wI dX0_guests_2 rfl rfl rfl (fun s2 => ?_)
  refine tq_aload_n dX0_guests_5 rfl ?_
  refine tq_iload_n dX0_guests_6 rfl ?_
  refine ty_v1_i dX0_guests_7 rfl rfl rfl (Nat.le_of_ble_eq_true rfl) (wfy_B_isBoard hO (d := d + 129) _ _ _) (fun p7 => ?_)
  refine tq_if_eq dX0_guests_10 rfl ?_ ?_
  · refine tq_iconst (v := (-1)) dX0_guests_26 (by decide) ?_
    exact tq_ireturn dX0_guests_27 rfl rfl
  · refine tq_aload_n dX0_guests_13 rfl ?_
    refine tq_iload_n dX0_guests_14 rfl ?_
    refine ty_v1_i dX0_guests_15 rfl rfl rfl (Nat.le_of_ble_eq_true rfl) (wfy_B_isBoard hO (d := d + 129) _ _ _) (fun p15 => ?_)
    refine tq_if_eq dX0_guests_18 rfl ?_ ?_
    · refine tq_iconst (v := (-1)) dX0_guests_26 (by decide) ?_
      exact tq_ireturn dX0_guests_27 rfl rfl
    · refine tq_iload_n dX0_guests_21 rfl ?_
      refine tq_iload_n dX0_guests_22 rfl ?_
      refine tq_icmp_ne dX0_guests_23 rfl ?_ ?_
      · refine tq_aload_n dX0_guests_28 rfl ?_
        refine tq_iload_n dX0_guests_29 rfl ?_
        refine ty_v1_I dX0_guests_30 rfl rfl rfl (Nat.le_of_ble_eq_true rfl) (wfy_B_landingsOf hO (d := d) _ _ _) (fun p30 => ?_)
        refine tq_istore_n (L' := [_, _, _, _, _, _, _, _]) dX0_guests_33 (Nat.le_of_ble_eq_true rfl) rfl ?_
        refine tq_aload_n dX0_guests_34 rfl ?_
        refine tq_iload_n dX0_guests_35 rfl ?_
        refine ty_v1_I dX0_guests_36 rfl rfl rfl (Nat.le_of_ble_eq_true rfl) (wfy_B_landingsOf hO (d := d) _ _ _) (fun p36 => ?_)
        refine tq_istore (L' := [_, _, _, _, _, _, _, _]) dX0_guests_39 (Nat.le_of_ble_eq_true rfl) rfl ?_
        refine tq_iload_n dX0_guests_41 rfl ?_
        refine tq_if_eq dX0_guests_42 rfl ?_ ?_
        · refine tq_iconst (v := (-1)) dX0_guests_50 (by decide) ?_
          exact tq_ireturn dX0_guests_51 rfl rfl
        · refine tq_iload dX0_guests_45 rfl ?_
          refine tq_if_ne dX0_guests_47 rfl ?_ ?_
          · refine tq_iconst (v := 0) dX0_guests_52 (by decide) ?_
            refine tq_istore (L' := [_, _, _, _, _, _, _, _]) dX0_guests_53 (Nat.le_of_ble_eq_true rfl) rfl ?_
            refine tq_iconst (v := 0) dX0_guests_55 (by decide) ?_
            refine tq_istore (L' := [_, _, _, _, _, _, _, _]) dX0_guests_56 (Nat.le_of_ble_eq_true rfl) rfl ?_
            refine Sfy_B_guests_b58 hO _ _ _ _ _ _ _ _ ⟨none, rfl⟩ (fun q58 J58 => ?_)
            refine tq_iload dX0_guests_168 rfl ?_
            exact tq_ireturn dX0_guests_170 rfl rfl
          · refine tq_iconst (v := (-1)) dX0_guests_50 (by decide) ?_
            exact tq_ireturn dX0_guests_51 rfl rfl
      · refine tq_iconst (v := (-1)) dX0_guests_26 (by decide) ?_
        exact tq_ireturn dX0_guests_27 rfl rfl
abbrev Pfy_B_singe_b23 (G : ai_G) (d : Nat) (h0 : ai_H) (v0 : Nat) (v1 : Int32) : (Int32 × yS) ⊕ (yS ⊕ (Int32 × yS)) → Option ai_R → Prop := Sum.elim (fun (q : Int32 × yS) run => ∃ J : JV, run = ai_run G (d + 130) 253 23 [some (.ref v0), some (.int v1), some (.int q.1), J.1] [] (yH q.2 h0)) (Sum.elim (fun (q : yS) run => ∃ J : JV × JV × JV × JV, run = ai_run G (d + 130) 253 69 [J.1.1, J.2.1.1, J.2.2.1.1, J.2.2.2.1] [] (yH q h0)) (PyI h0))
theorem Bfy_B_singe_b23 {G : ai_G} {d : Nat} {h0 : ai_H} (hO : hOld G h0) (v0 : Nat) (v1 : Int32) (b0 : Int32) (b1 : yS) (J : JV) : Tj G (d + 130) 253 (Pfy_B_singe_b23 G d h0 v0 v1) (some (.inl (b0, b1))) 23 [some (.ref v0), some (.int v1), some (.int b0), J.1] [] (yH b1 h0) := tq_back J rfl rfl
theorem Efy_B_singe_b23 {G : ai_G} {d : Nat} {h0 : ai_H} (hO : hOld G h0) (v0 : Nat) (v1 : Int32) (b0 : yS) (J : JV × JV × JV × JV) : Tj G (d + 130) 253 (Pfy_B_singe_b23 G d h0 v0 v1) (some (.inr (.inl b0))) 69 [J.1.1, J.2.1.1, J.2.2.1.1, J.2.2.2.1] [] (yH b0 h0) := tq_exit2 J rfl rfl
theorem wfy_B_singe_b23 {G : ai_G} {d : Nat} {h0 : ai_H} (hO : hOld G h0) (v0 : Nat) (v1 : Int32) (q : Int32 × yS) (J : JV) : Tj G (d + 130) 253 (Pfy_B_singe_b23 G d h0 v0 v1) (fy_B_singe_b23 G v0 v1 q) 23 [some (.ref v0), some (.int v1), some (.int q.1), J.1] [] (yH q.2 h0) := by
  unfold fy_B_singe_b23
  refine tq_iload_n dX0_singe_23 rfl ?_
  refine tq_aload_n dX0_singe_24 rfl ?_
  refine tq_iload_n dX0_singe_25 rfl ?_
  refine ty_v1_i dX0_singe_26 rfl rfl rfl (Nat.le_of_ble_eq_true rfl) (wfy_B_strokesLeft hO (d := d + 129) _ _ _) (fun p26 => ?_)
  refine tq_icmp_gt dX0_singe_29 rfl ?_ ?_
  · exact Efy_B_singe_b23 hO _ _ _ (⟨some (.ref v0), rfl⟩, ⟨some (.int v1), rfl⟩, ⟨some (.int q.1), rfl⟩, J)
  · refine tq_aload_n dX0_singe_32 rfl ?_
    refine ty_gR dX0_singe_33 rfl rfl (fun x33 => ?_)
    refine tq_aload_n dX0_singe_36 rfl ?_
    refine ty_gR dX0_singe_37 rfl rfl (fun x37 => ?_)
    refine tq_iload_n dX0_singe_40 rfl ?_
    refine tq_iconst (v := 0) dX0_singe_41 (by decide) ?_
    refine tq_iconst (v := 1) dX0_singe_42 (by decide) ?_
    refine tq_iconst (v := 0) dX0_singe_43 (by decide) ?_
    refine ty_v5_I dX0_singe_44 rfl rfl rfl (Nat.le_of_ble_eq_true rfl) (wfy_State_stroke hO (d := d) _ _ _ _ _ _ _) (fun p44 => ?_)
    refine tq_istore_n (L' := [_, _, _, _]) dX0_singe_47 (Nat.le_of_ble_eq_true rfl) rfl ?_
    refine tq_iload_n dX0_singe_48 rfl ?_
    refine tq_if_eq dX0_singe_49 rfl ?_ ?_
    · refine tq_iinc (v := (q.1 + 1)) (L' := [_, _, _, _]) dX0_singe_63 rfl (Nat.le_of_ble_eq_true rfl) rfl rfl ?_
      refine tq_goto dX0_singe_66 rfl ?_
      exact Bfy_B_singe_b23 hO _ _ _ _ ⟨some (.int p44.1), rfl⟩
    · refine tq_iload_n dX0_singe_52 rfl ?_
      refine tq_iconst (v := 2) dX0_singe_53 (by decide) ?_
      refine tq_icmp_ne dX0_singe_54 rfl ?_ ?_
      · refine tq_iconst (v := (-1)) dX0_singe_61 (by decide) ?_
        exact tq_ireturn dX0_singe_62 rfl rfl
      · refine tq_iload_n dX0_singe_57 rfl ?_
        refine tq_goto dX0_singe_58 rfl ?_
        exact tq_ireturn dX0_singe_62 rfl rfl
theorem Sfy_B_singe_b23 {G : ai_G} {d : Nat} {h0 : ai_H} (hO : hOld G h0) {α : Type} {P : α → Option ai_R → Prop} (v0 : Nat) (v1 : Int32) (b0 : Int32) (b1 : yS) (J : JV) {r : yS → Option α} {r2 : (Int32 × yS) → Option α} (k2 : ∀ v run, (PyI h0) v run → ∀ a, r2 v = some a → P a run) (kk : ∀ (q : yS) (J : JV × JV × JV × JV), Tj G (d + 130) 253 P (r q) 69 [J.1.1, J.2.1.1, J.2.2.1.1, J.2.2.2.1] [] (yH q h0)) : Tj G (d + 130) 253 P ((lp (fy_B_singe_b23 G v0 v1) (b0, b1)).bind (Sum.elim r r2)) 23 [some (.ref v0), some (.int v1), some (.int b0), J.1] [] (yH b1 h0) := tq_lp2 (J := J) (fun q J => wfy_B_singe_b23 hO v0 v1 q J) rfl rfl k2 kk
theorem wfy_B_singe {G : ai_G} {d : Nat} {h0 : ai_H} (hO : hOld G h0) (s : yS) (v0 : Nat) (v1 : Int32) : ∀ r, fy_B_singe G s v0 v1 = some r → (PyI h0) r (ai_call G (d + 131) 253 [.ref v0, .int v1] (yH s h0)) := by
  refine tq_meth (P := (PyI h0)) (d := (d + 130)) (Nat.le_of_ble_eq_true rfl) ?_
  show Tj G (d + 130) 253 (PyI h0) (fy_B_singe G s v0 v1) 0 [some (.ref v0), some (.int v1), none, none] [] (yH s h0)
  unfold fy_B_singe
  refine tq_aload_n dX0_singe_0 rfl ?_
  refine tq_iload_n dX0_singe_1 rfl ?_
  refine ty_v1_i dX0_singe_2 rfl rfl rfl (Nat.le_of_ble_eq_true rfl) (wfy_B_isBoard hO (d := d + 127) _ _ _) (fun p2 => ?_)
  refine tq_if_ne dX0_singe_5 rfl ?_ ?_
  · refine tq_aload_n dX0_singe_10 rfl ?_
    refine ty_gR dX0_singe_11 rfl rfl (fun x11 => ?_)
    refine tq_aload_n dX0_singe_14 rfl ?_
    refine ty_gR dX0_singe_15 rfl rfl (fun x15 => ?_)
    refine ty_v1_V dX0_singe_18 rfl rfl rfl (Nat.le_of_ble_eq_true rfl) (wfy_State_of hO (d := d + 129) _ _ _) (fun p18 => ?_)
    refine tq_iconst (v := 1) dX0_singe_21 (by decide) ?_
    refine tq_istore_n (L' := [_, _, _, _]) dX0_singe_22 (Nat.le_of_ble_eq_true rfl) rfl ?_
    refine Sfy_B_singe_b23 hO _ _ _ _ ⟨none, rfl⟩ (fun v run hv a ha => by cases ha; exact hv) (fun q23 J23 => ?_)
    refine tq_iconst (v := (-1)) dX0_singe_69 (by decide) ?_
    exact tq_ireturn dX0_singe_70 rfl rfl
  · refine tq_iconst (v := (-1)) dX0_singe_8 (by decide) ?_
    exact tq_ireturn dX0_singe_9 rfl rfl
abbrev Pfy_B_landsBy_b17 (G : ai_G) (d : Nat) (h0 : ai_H) (v0 : Nat) (v1 : Int32) (v2 : Int32) (v3 : Int32) (v4 : Int32) : (Int32 × Int32 × yS) ⊕ ((Int32 × yS) ⊕ (Int32 × yS)) → Option ai_R → Prop := Sum.elim (fun (q : Int32 × Int32 × yS) run => ∃ J : JV, run = ai_run G (d + 130) 255 17 [some (.ref v0), some (.int v1), some (.int v2), some (.int v3), some (.int v4), some (.int q.1), some (.int q.2.1), J.1] [] (yH q.2.2 h0)) (Sum.elim (fun (q : Int32 × yS) run => ∃ J : JV × JV × JV × JV, run = ai_run G (d + 130) 255 92 [some (.ref v0), some (.int v1), some (.int v2), J.1.1, J.2.1.1, some (.int q.1), J.2.2.1.1, J.2.2.2.1] [] (yH q.2 h0)) (PyI h0))
theorem Bfy_B_landsBy_b17 {G : ai_G} {d : Nat} {h0 : ai_H} (hO : hOld G h0) (v0 : Nat) (v1 : Int32) (v2 : Int32) (v3 : Int32) (v4 : Int32) (b0 : Int32) (b1 : Int32) (b2 : yS) (J : JV) : Tj G (d + 130) 255 (Pfy_B_landsBy_b17 G d h0 v0 v1 v2 v3 v4) (some (.inl (b0, b1, b2))) 17 [some (.ref v0), some (.int v1), some (.int v2), some (.int v3), some (.int v4), some (.int b0), some (.int b1), J.1] [] (yH b2 h0) := tq_back J rfl rfl
theorem Efy_B_landsBy_b17 {G : ai_G} {d : Nat} {h0 : ai_H} (hO : hOld G h0) (v0 : Nat) (v1 : Int32) (v2 : Int32) (v3 : Int32) (v4 : Int32) (b0 : Int32) (b1 : yS) (J : JV × JV × JV × JV) : Tj G (d + 130) 255 (Pfy_B_landsBy_b17 G d h0 v0 v1 v2 v3 v4) (some (.inr (.inl (b0, b1)))) 92 [some (.ref v0), some (.int v1), some (.int v2), J.1.1, J.2.1.1, some (.int b0), J.2.2.1.1, J.2.2.2.1] [] (yH b1 h0) := tq_exit2 J rfl rfl
theorem wfy_B_landsBy_j59 {G : ai_G} {d : Nat} {h0 : ai_H} (hO : hOld G h0) (j5 : JV)   (s : yS) (v0 : Nat) (v1 : Int32) (v2 : Int32) (v3 : Int32) (v4 : Int32) (v6 : Int32) (v7 : Int32) (t0 : Int32) (t1 : Int32): Tj G (d + 130) 255 (Pfy_B_landsBy_b17 G d h0 v0 v1 v2 v3 v4) (fy_B_landsBy_j59 G s v0 v1 v2 v3 v4 v6 v7 t0 t1) 59 [some (.ref v0), some (.int v1), some (.int v2), some (.int v3), some (.int v4), j5.1, some (.int v6), some (.int v7)] [.int t1, .int t0] (yH s h0) := by
  unfold fy_B_landsBy_j59
  refine tq_imul dX0_landsBy_59 ?_
  refine tq_istore (L' := [_, _, _, _, _, _, _, _]) dX0_landsBy_60 (Nat.le_of_ble_eq_true rfl) rfl ?_
  refine tq_aload_n dX0_landsBy_62 rfl ?_
  refine ty_gR dX0_landsBy_63 rfl rfl (fun x63 => ?_)
  refine tq_aload_n dX0_landsBy_66 rfl ?_
  refine ty_gR dX0_landsBy_67 rfl rfl (fun x67 => ?_)
  refine tq_iload_n dX0_landsBy_70 rfl ?_
  refine tq_iconst (v := 0) dX0_landsBy_71 (by decide) ?_
  refine tq_iconst (v := 1) dX0_landsBy_72 (by decide) ?_
  refine tq_iload dX0_landsBy_73 rfl ?_
  refine ty_v5_I dX0_landsBy_75 rfl rfl rfl (Nat.le_of_ble_eq_true rfl) (wfy_State_stroke hO (d := d) _ _ _ _ _ _ _) (fun p75 => ?_)
  refine tq_iconst (v := 2) dX0_landsBy_78 (by decide) ?_
  refine tq_irem dX0_landsBy_79 (fun x79 => ?_)
  refine tq_iconst (v := 1) dX0_landsBy_80 (by decide) ?_
  refine tq_icmp_ne dX0_landsBy_81 rfl ?_ ?_
  · refine tq_iinc (v := (v6 + 1)) (L' := [_, _, _, _, _, _, _, _]) dX0_landsBy_86 rfl (Nat.le_of_ble_eq_true rfl) rfl rfl ?_
    refine tq_goto dX0_landsBy_89 rfl ?_
    exact Bfy_B_landsBy_b17 hO _ _ _ _ _ _ _ _ ⟨some (.int v7), rfl⟩
  · refine tq_iconst (v := 0) dX0_landsBy_84 (by decide) ?_
    exact tq_ireturn dX0_landsBy_85 rfl rfl
theorem wfy_B_landsBy_b17 {G : ai_G} {d : Nat} {h0 : ai_H} (hO : hOld G h0) (v0 : Nat) (v1 : Int32) (v2 : Int32) (v3 : Int32) (v4 : Int32) (q : Int32 × Int32 × yS) (J : JV) : Tj G (d + 130) 255 (Pfy_B_landsBy_b17 G d h0 v0 v1 v2 v3 v4) (fy_B_landsBy_b17 G v0 v1 v2 v3 v4 q) 17 [some (.ref v0), some (.int v1), some (.int v2), some (.int v3), some (.int v4), some (.int q.1), some (.int q.2.1), J.1] [] (yH q.2.2 h0) := by
  unfold fy_B_landsBy_b17
  refine tq_iload dX0_landsBy_17 rfl ?_
  refine tq_iload_n dX0_landsBy_19 rfl ?_
  refine tq_icmp_ge dX0_landsBy_20 rfl ?_ ?_
  · exact Efy_B_landsBy_b17 hO _ _ _ _ _ _ _ (⟨some (.int v3), rfl⟩, ⟨some (.int v4), rfl⟩, ⟨some (.int q.2.1), rfl⟩, J)
  · refine tq_iload dX0_landsBy_23 rfl ?_
    refine tq_iload dX0_landsBy_25 rfl ?_
    refine ty_s2_pi dX0_landsBy_27 rfl rfl rfl (Nat.le_of_ble_eq_true rfl) (wfy_B_has (d := d + 129) _ _) (fun p27 => ?_)
    refine tq_istore (L' := [_, _, _, _, _, _, _, _]) dX0_landsBy_30 (Nat.le_of_ble_eq_true rfl) rfl ?_
    refine tq_iload dX0_landsBy_32 rfl ?_
    refine tq_iload dX0_landsBy_34 rfl ?_
    refine tq_if_eq dX0_landsBy_36 rfl ?_ ?_
    · refine tq_bipush (v := 100) dX0_landsBy_49 (by decide) ?_
      refine tq_aload_n dX0_landsBy_51 rfl ?_
      refine ty_gR dX0_landsBy_52 rfl rfl (fun x52 => ?_)
      refine ty_gI dX0_landsBy_55 rfl rfl (fun x55 => ?_)
      refine tq_isub dX0_landsBy_58 ?_
      exact wfy_B_landsBy_j59 hO ⟨some (.int q.1), rfl⟩ _ _ _ _ _ _ _ _ _ _
    · refine tq_aload_n dX0_landsBy_39 rfl ?_
      refine ty_gR dX0_landsBy_40 rfl rfl (fun x40 => ?_)
      refine ty_gI dX0_landsBy_43 rfl rfl (fun x43 => ?_)
      refine tq_goto dX0_landsBy_46 rfl ?_
      exact wfy_B_landsBy_j59 hO ⟨some (.int q.1), rfl⟩ _ _ _ _ _ _ _ _ _ _
theorem Sfy_B_landsBy_b17 {G : ai_G} {d : Nat} {h0 : ai_H} (hO : hOld G h0) {α : Type} {P : α → Option ai_R → Prop} (v0 : Nat) (v1 : Int32) (v2 : Int32) (v3 : Int32) (v4 : Int32) (b0 : Int32) (b1 : Int32) (b2 : yS) (J : JV) {r : (Int32 × yS) → Option α} {r2 : (Int32 × yS) → Option α} (k2 : ∀ v run, (PyI h0) v run → ∀ a, r2 v = some a → P a run) (kk : ∀ (q : Int32 × yS) (J : JV × JV × JV × JV), Tj G (d + 130) 255 P (r q) 92 [some (.ref v0), some (.int v1), some (.int v2), J.1.1, J.2.1.1, some (.int q.1), J.2.2.1.1, J.2.2.2.1] [] (yH q.2 h0)) : Tj G (d + 130) 255 P ((lp (fy_B_landsBy_b17 G v0 v1 v2 v3 v4) (b0, b1, b2)).bind (Sum.elim r r2)) 17 [some (.ref v0), some (.int v1), some (.int v2), some (.int v3), some (.int v4), some (.int b0), some (.int b1), J.1] [] (yH b2 h0) := tq_lp2 (J := J) (fun q J => wfy_B_landsBy_b17 hO v0 v1 v2 v3 v4 q J) rfl rfl k2 kk
theorem wfy_B_landsBy {G : ai_G} {d : Nat} {h0 : ai_H} (hO : hOld G h0) (s : yS) (v0 : Nat) (v1 : Int32) (v2 : Int32) (v3 : Int32) (v4 : Int32) : ∀ r, fy_B_landsBy G s v0 v1 v2 v3 v4 = some r → (PyI h0) r (ai_call G (d + 131) 255 [.ref v0, .int v1, .int v2, .int v3, .int v4] (yH s h0)) := by
  refine tq_meth (P := (PyI h0)) (d := (d + 130)) (Nat.le_of_ble_eq_true rfl) ?_
  show Tj G (d + 130) 255 (PyI h0) (fy_B_landsBy G s v0 v1 v2 v3 v4) 0 [some (.ref v0), some (.int v1), some (.int v2), some (.int v3), some (.int v4), none, none, none] [] (yH s h0)
  unfold fy_B_landsBy
  refine tq_aload_n dX0_landsBy_0 rfl ?_
  refine ty_gR dX0_landsBy_1 rfl rfl (fun x1 => ?_)
  refine tq_aload_n dX0_landsBy_4 rfl ?_
  refine ty_gR dX0_landsBy_5 rfl rfl (fun x5 => ?_)
  refine ty_v1_V dX0_landsBy_8 rfl rfl rfl (Nat.le_of_ble_eq_true rfl) (wfy_State_of hO (d := d + 129) _ _ _) (fun p8 => ?_)
  refine tq_iconst (v := 1) dX0_landsBy_11 (by decide) ?_
  refine tq_istore (L' := [_, _, _, _, _, _, _, _]) dX0_landsBy_12 (Nat.le_of_ble_eq_true rfl) rfl ?_
  refine tq_iconst (v := 0) dX0_landsBy_14 (by decide) ?_
  refine tq_istore (L' := [_, _, _, _, _, _, _, _]) dX0_landsBy_15 (Nat.le_of_ble_eq_true rfl) rfl ?_
  refine Sfy_B_landsBy_b17 hO _ _ _ _ _ _ _ _ ⟨none, rfl⟩ (fun v run hv a ha => by cases ha; exact hv) (fun q17 J17 => ?_)
  refine tq_aload_n dX0_landsBy_92 rfl ?_
  refine ty_gR dX0_landsBy_93 rfl rfl (fun x93 => ?_)
  refine ty_gR dX0_landsBy_96 rfl rfl (fun x96 => ?_)
  refine tq_iload_n dX0_landsBy_99 rfl ?_
  refine ty_iald dX0_landsBy_100 (fun x100 => ?_)
  refine tq_iload_n dX0_landsBy_101 rfl ?_
  refine tq_icmp_ne dX0_landsBy_102 rfl ?_ ?_
  · refine tq_iconst (v := 0) dX0_landsBy_110 (by decide) ?_
    exact tq_ireturn dX0_landsBy_111 rfl rfl
  · refine tq_iload dX0_landsBy_105 rfl ?_
    refine tq_goto dX0_landsBy_107 rfl ?_
    exact tq_ireturn dX0_landsBy_111 rfl rfl
theorem wfy_B_common {G : ai_G} {d : Nat} {h : ai_H} {rec : Int32 → Int32 → Option (Int32)} (hrec : ∀ (v0 : Int32) (v1 : Int32) r, rec v0 v1 = some r → (Pi h) r (ai_call G d 256 [.int v0, .int v1] h)) (v0 : Int32) (v1 : Int32) : ∀ r, fy_B_common rec v0 v1 = some r → (Pi h) r (ai_call G (d + 1) 256 [.int v0, .int v1] h) := by
  refine tq_meth (P := (Pi h)) (d := d) (Nat.le_of_ble_eq_true rfl) ?_
  show Tj G d 256 (Pi h) (fy_B_common rec v0 v1) 0 [some (.int v0), some (.int v1)] [] h
  unfold fy_B_common
  refine tq_iload_n dX0_common_0 rfl ?_
  refine tq_if_ne dX0_common_1 rfl ?_ ?_
  · refine tq_iload_n dX0_common_8 rfl ?_
    refine tq_iload_n dX0_common_9 rfl ?_
    refine tq_iload_n dX0_common_10 rfl ?_
    refine tq_irem dX0_common_11 (fun x11 => ?_)
    refine ty_s2_pi dX0_common_12 rfl rfl rfl (Nat.le_of_ble_eq_true rfl) (fun b hb => acm (hrec _ _ b hb) 0) (fun p12 => ?_)
    exact tq_ireturn dX0_common_15 rfl rfl
  · refine tq_iload_n dX0_common_4 rfl ?_
    refine tq_goto dX0_common_5 rfl ?_
    exact tq_ireturn dX0_common_15 rfl rfl
theorem wfy_B_common_N {G : ai_G} {d : Nat} {h : ai_H} (n : Nat) : ∀ (v0 : Int32) (v1 : Int32) r, fy_B_common_N n v0 v1 = some r → (Pi h) r (ai_call G (d + 1 * n) 256 [.int v0, .int v1] h) := by
  induction n with
  | zero => intro v0 v1 r h1; cases h1
  | succ n ih => intro v0 v1 r h1; exact wfy_B_common (d := d + 1 * n) ih v0 v1 r h1
abbrev Pfy_B_odds_b58 (G : ai_G) (d : Nat) (h0 : ai_H) (v0 : Nat) (v1 : Int32) (v2 : Int32) (v3 : Int32) (v4 : Int32) : (Int32 × Int32 × yS) ⊕ (Int32 × yS) → Option ai_R → Prop := Sum.elim (fun (q : Int32 × Int32 × yS) run => ∃ J : Unit, run = ai_run G (d + 131) 257 58 [some (.ref v0), some (.int v1), some (.int v2), some (.int v3), some (.int v4), some (.int q.1), some (.int q.2.1)] [] (yH q.2.2 h0)) (fun (q : Int32 × yS) run => ∃ J : JV × JV × JV × JV, run = ai_run G (d + 131) 257 88 [J.1.1, J.2.1.1, J.2.2.1.1, some (.int v3), some (.int v4), some (.int q.1), J.2.2.2.1] [] (yH q.2 h0))
theorem Bfy_B_odds_b58 {G : ai_G} {d : Nat} {h0 : ai_H} (hO : hOld G h0) (v0 : Nat) (v1 : Int32) (v2 : Int32) (v3 : Int32) (v4 : Int32) (b0 : Int32) (b1 : Int32) (b2 : yS) (J : Unit) : Tj G (d + 131) 257 (Pfy_B_odds_b58 G d h0 v0 v1 v2 v3 v4) (some (.inl (b0, b1, b2))) 58 [some (.ref v0), some (.int v1), some (.int v2), some (.int v3), some (.int v4), some (.int b0), some (.int b1)] [] (yH b2 h0) := tq_back J rfl rfl
theorem Efy_B_odds_b58 {G : ai_G} {d : Nat} {h0 : ai_H} (hO : hOld G h0) (v0 : Nat) (v1 : Int32) (v2 : Int32) (v3 : Int32) (v4 : Int32) (b0 : Int32) (b1 : yS) (J : JV × JV × JV × JV) : Tj G (d + 131) 257 (Pfy_B_odds_b58 G d h0 v0 v1 v2 v3 v4) (some (.inr (b0, b1))) 88 [J.1.1, J.2.1.1, J.2.2.1.1, some (.int v3), some (.int v4), some (.int b0), J.2.2.2.1] [] (yH b1 h0) := tq_exit J rfl rfl
theorem wfy_B_odds_b58 {G : ai_G} {d : Nat} {h0 : ai_H} (hO : hOld G h0) (v0 : Nat) (v1 : Int32) (v2 : Int32) (v3 : Int32) (v4 : Int32) (q : Int32 × Int32 × yS) (J : Unit) : Tj G (d + 131) 257 (Pfy_B_odds_b58 G d h0 v0 v1 v2 v3 v4) (fy_B_odds_b58 G v0 v1 v2 v3 v4 q) 58 [some (.ref v0), some (.int v1), some (.int v2), some (.int v3), some (.int v4), some (.int q.1), some (.int q.2.1)] [] (yH q.2.2 h0) := by
  unfold fy_B_odds_b58
  refine tq_iload dX0_odds_58 rfl ?_
  refine tq_iconst (v := 1) dX0_odds_60 (by decide) ?_
  refine tq_iload dX0_odds_61 rfl ?_
  refine tq_ishl dX0_odds_63 ?_
  refine tq_icmp_ge dX0_odds_64 rfl ?_ ?_
  · exact Efy_B_odds_b58 hO _ _ _ _ _ _ _ (⟨some (.ref v0), rfl⟩, ⟨some (.int v1), rfl⟩, ⟨some (.int v2), rfl⟩, ⟨some (.int q.2.1), rfl⟩)
  · refine tq_iload dX0_odds_67 rfl ?_
    refine tq_aload_n dX0_odds_69 rfl ?_
    refine tq_iload_n dX0_odds_70 rfl ?_
    refine tq_iload_n dX0_odds_71 rfl ?_
    refine tq_iload dX0_odds_72 rfl ?_
    refine tq_iload dX0_odds_74 rfl ?_
    refine ty_v4_I dX0_odds_76 rfl rfl rfl (Nat.le_of_ble_eq_true rfl) (wfy_B_landsBy hO (d := d) _ _ _ _ _ _) (fun p76 => ?_)
    refine tq_iadd dX0_odds_79 ?_
    refine tq_istore (L' := [_, _, _, _, _, _, _]) dX0_odds_80 (Nat.le_of_ble_eq_true rfl) rfl ?_
    refine tq_iinc (v := (q.2.1 + 1)) (L' := [_, _, _, _, _, _, _]) dX0_odds_82 rfl (Nat.le_of_ble_eq_true rfl) rfl rfl ?_
    refine tq_goto dX0_odds_85 rfl ?_
    exact Bfy_B_odds_b58 hO _ _ _ _ _ _ _ _ ()
theorem Sfy_B_odds_b58 {G : ai_G} {d : Nat} {h0 : ai_H} (hO : hOld G h0) {α : Type} {P : α → Option ai_R → Prop} (v0 : Nat) (v1 : Int32) (v2 : Int32) (v3 : Int32) (v4 : Int32) (b0 : Int32) (b1 : Int32) (b2 : yS) (J : Unit) {r : (Int32 × yS) → Option α} (kk : ∀ (q : Int32 × yS) (J : JV × JV × JV × JV), Tj G (d + 131) 257 P (r q) 88 [J.1.1, J.2.1.1, J.2.2.1.1, some (.int v3), some (.int v4), some (.int q.1), J.2.2.2.1] [] (yH q.2 h0)) : Tj G (d + 131) 257 P ((lp (fy_B_odds_b58 G v0 v1 v2 v3 v4) (b0, b1, b2)).bind r) 58 [some (.ref v0), some (.int v1), some (.int v2), some (.int v3), some (.int v4), some (.int b0), some (.int b1)] [] (yH b2 h0) := tq_lp1 (J := J) (fun q J => wfy_B_odds_b58 hO v0 v1 v2 v3 v4 q J) rfl rfl kk
theorem wfy_B_odds {G : ai_G} {d : Nat} {h0 : ai_H} (hO : hOld G h0) (s : yS) (v0 : Nat) (v1 : Int32) (v2 : Int32) (v3 : Int32) : ∀ r, fy_B_odds G s v0 v1 v2 v3 = some r → (PyI h0) r (ai_call G (d + 132) 257 [.ref v0, .int v1, .int v2, .int v3] (yH s h0)) := by
  refine tq_meth (P := (PyI h0)) (d := (d + 131)) (Nat.le_of_ble_eq_true rfl) ?_
  show Tj G (d + 131) 257 (PyI h0) (fy_B_odds G s v0 v1 v2 v3) 0 [some (.ref v0), some (.int v1), some (.int v2), some (.int v3), none, none, none] [] (yH s h0)
  unfold fy_B_odds
  refine tq_aload_n dX0_odds_0 rfl ?_
  refine tq_iload_n dX0_odds_1 rfl ?_
  refine ty_v1_i dX0_odds_2 rfl rfl rfl (Nat.le_of_ble_eq_true rfl) (wfy_B_isBoard hO (d := d + 128) _ _ _) (fun p2 => ?_)
  refine tq_if_eq dX0_odds_5 rfl ?_ ?_
  · refine tq_iconst (v := (-1)) dX0_odds_43 (by decide) ?_
    exact tq_ireturn dX0_odds_44 rfl rfl
  · refine tq_iload_n dX0_odds_8 rfl ?_
    refine tq_iconst (v := 0) dX0_odds_9 (by decide) ?_
    refine tq_aload_n dX0_odds_10 rfl ?_
    refine ty_gR dX0_odds_11 rfl rfl (fun x11 => ?_)
    refine ty_gI dX0_odds_14 rfl rfl (fun x14 => ?_)
    refine tq_iconst (v := 1) dX0_odds_17 (by decide) ?_
    refine tq_isub dX0_odds_18 ?_
    refine ty_s3_pi dX0_odds_19 rfl rfl rfl (Nat.le_of_ble_eq_true rfl) (wfy_B_isIn (d := d + 130) _ _ _) (fun p19 => ?_)
    refine tq_if_eq dX0_odds_22 rfl ?_ ?_
    · refine tq_iconst (v := (-1)) dX0_odds_43 (by decide) ?_
      exact tq_ireturn dX0_odds_44 rfl rfl
    · refine tq_iload_n dX0_odds_25 rfl ?_
      refine tq_iconst (v := 0) dX0_odds_26 (by decide) ?_
      refine tq_iconst (v := 1) dX0_odds_27 (by decide) ?_
      refine ty_s3_pi dX0_odds_28 rfl rfl rfl (Nat.le_of_ble_eq_true rfl) (wfy_B_isIn (d := d + 130) _ _ _) (fun p28 => ?_)
      refine tq_if_eq dX0_odds_31 rfl ?_ ?_
      · refine tq_iconst (v := (-1)) dX0_odds_43 (by decide) ?_
        exact tq_ireturn dX0_odds_44 rfl rfl
      · refine tq_aload_n dX0_odds_34 rfl ?_
        refine tq_iload_n dX0_odds_35 rfl ?_
        refine ty_v1_i dX0_odds_36 rfl rfl rfl (Nat.le_of_ble_eq_true rfl) (wfy_B_strokesLeft hO (d := d + 130) _ _ _) (fun p36 => ?_)
        refine tq_iconst (v := 4) dX0_odds_39 (by decide) ?_
        refine tq_icmp_le dX0_odds_40 rfl ?_ ?_
        · refine tq_aload_n dX0_odds_45 rfl ?_
          refine tq_iload_n dX0_odds_46 rfl ?_
          refine ty_v1_i dX0_odds_47 rfl rfl rfl (Nat.le_of_ble_eq_true rfl) (wfy_B_strokesLeft hO (d := d + 130) _ _ _) (fun p47 => ?_)
          refine tq_istore (L' := [_, _, _, _, _, _, _]) dX0_odds_50 (Nat.le_of_ble_eq_true rfl) rfl ?_
          refine tq_iconst (v := 0) dX0_odds_52 (by decide) ?_
          refine tq_istore (L' := [_, _, _, _, _, _, _]) dX0_odds_53 (Nat.le_of_ble_eq_true rfl) rfl ?_
          refine tq_iconst (v := 0) dX0_odds_55 (by decide) ?_
          refine tq_istore (L' := [_, _, _, _, _, _, _]) dX0_odds_56 (Nat.le_of_ble_eq_true rfl) rfl ?_
          refine Sfy_B_odds_b58 hO _ _ _ _ _ _ _ _ () (fun q58 J58 => ?_)
          refine tq_bipush (v := 100) dX0_odds_88 (by decide) ?_
          refine tq_iload dX0_odds_90 rfl ?_
          refine ty_s2_pi dX0_odds_92 rfl rfl rfl (Nat.le_of_ble_eq_true rfl) (wfy_B_power (d := d + 130) _ _) (fun p92 => ?_)
          refine tq_istore (L' := [_, _, _, _, _, _, _]) dX0_odds_95 (Nat.le_of_ble_eq_true rfl) rfl ?_
          refine tq_iload_n dX0_odds_97 rfl ?_
          refine tq_if_ne dX0_odds_98 rfl ?_ ?_
          · refine tq_iload dX0_odds_106 rfl ?_
            refine tq_iload dX0_odds_108 rfl ?_
            refine tq_iload dX0_odds_110 rfl ?_
            refine ty_s2_pi dX0_odds_112 rfl rfl rfl (Nat.le_of_ble_eq_true rfl) (fun b hb => acm (wfy_B_common_N 64 _ _ b hb) 67) (fun p112 => ?_)
            refine tq_idiv dX0_odds_115 (fun x115 => ?_)
            exact tq_ireturn dX0_odds_116 rfl rfl
          · refine tq_iload dX0_odds_101 rfl ?_
            refine tq_goto dX0_odds_103 rfl ?_
            refine tq_iload dX0_odds_108 rfl ?_
            refine tq_iload dX0_odds_110 rfl ?_
            refine ty_s2_pi dX0_odds_112 rfl rfl rfl (Nat.le_of_ble_eq_true rfl) (fun b hb => acm (wfy_B_common_N 64 _ _ b hb) 67) (fun p112 => ?_)
            refine tq_idiv dX0_odds_115 (fun x115 => ?_)
            exact tq_ireturn dX0_odds_116 rfl rfl
        · refine tq_iconst (v := (-1)) dX0_odds_43 (by decide) ?_
          exact tq_ireturn dX0_odds_44 rfl rfl
theorem wfy_B_over {G : ai_G} {d : Nat} {h0 : ai_H} (hO : hOld G h0) (s : yS) (v0 : Nat) : ∀ r, fy_B_over G s v0 = some r → (Pi (yH s h0)) r (ai_call G (d + 3) 261 [.ref v0] (yH s h0)) := by
  refine tq_meth (P := (Pi (yH s h0))) (d := (d + 2)) (Nat.le_of_ble_eq_true rfl) ?_
  show Tj G (d + 2) 261 (Pi (yH s h0)) (fy_B_over G s v0) 0 [some (.ref v0)] [] (yH s h0)
  unfold fy_B_over
  refine tq_aload_n dX0_over_0 rfl ?_
  refine ty_gR dX0_over_1 rfl rfl (fun x1 => ?_)
  refine tq_aload_n dX0_over_4 rfl ?_
  refine ty_gR dX0_over_5 rfl rfl (fun x5 => ?_)
  refine tq_bipush (v := (-2)) dX0_over_8 (by decide) ?_
  refine ty_v2_i dX0_over_10 rfl rfl rfl (Nat.le_of_ble_eq_true rfl) (wfy_State_loadsAt hO (d := d) _ _ _ _) (fun p10 => ?_)
  exact tq_ireturn dX0_over_13 rfl rfl
theorem wfy_B_left {G : ai_G} {d : Nat} {h0 : ai_H} (hO : hOld G h0) (s : yS) (v0 : Nat) : ∀ r, fy_B_left G s v0 = some r → (Pi (yH s h0)) r (ai_call G (d + 5) 263 [.ref v0] (yH s h0)) := by
  refine tq_meth (P := (Pi (yH s h0))) (d := (d + 4)) (Nat.le_of_ble_eq_true rfl) ?_
  show Tj G (d + 4) 263 (Pi (yH s h0)) (fy_B_left G s v0) 0 [some (.ref v0)] [] (yH s h0)
  unfold fy_B_left
  refine tq_aload_n dX0_left_0 rfl ?_
  refine ty_gR dX0_left_1 rfl rfl (fun x1 => ?_)
  refine tq_iconst (v := 1) dX0_left_4 (by decide) ?_
  refine tq_aload_n dX0_left_5 rfl ?_
  refine ty_v0_i dX0_left_6 rfl rfl rfl (Nat.le_of_ble_eq_true rfl) (wfy_B_loads hO (d := d + 2) _ _) (fun p6 => ?_)
  refine tq_ishl dX0_left_9 ?_
  refine tq_iconst (v := 1) dX0_left_10 (by decide) ?_
  refine tq_isub dX0_left_11 ?_
  refine tq_aload_n dX0_left_12 rfl ?_
  refine ty_v0_i dX0_left_13 rfl rfl rfl (Nat.le_of_ble_eq_true rfl) (wfy_B_over hO (d := d + 1) _ _) (fun p13 => ?_)
  refine tq_iconst (v := (-1)) dX0_left_16 (by decide) ?_
  refine tq_ixor dX0_left_17 ?_
  refine tq_iand dX0_left_18 ?_
  refine ty_v1_i dX0_left_19 rfl rfl rfl (Nat.le_of_ble_eq_true rfl) (wfy_River_widthOf hO (d := d) _ _ _) (fun p19 => ?_)
  exact tq_ireturn dX0_left_22 rfl rfl
abbrev Pfy_B_pulled_b4 (G : ai_G) (d : Nat) (h0 : ai_H) (s : yS) (v0 : Nat) : (Int32 × Int32) ⊕ Int32 → Option ai_R → Prop := Sum.elim (fun (q : Int32 × Int32) run => ∃ J : Unit, run = ai_run G (d + 2) 265 4 [some (.ref v0), some (.int q.1), some (.int q.2)] [] (yH s h0)) (fun (q : Int32) run => ∃ J : JV × JV, run = ai_run G (d + 2) 265 60 [J.1.1, some (.int q), J.2.1] [] (yH s h0))
theorem Bfy_B_pulled_b4 {G : ai_G} {d : Nat} {h0 : ai_H} (hO : hOld G h0) (s : yS) (v0 : Nat) (b0 : Int32) (b1 : Int32) (J : Unit) : Tj G (d + 2) 265 (Pfy_B_pulled_b4 G d h0 s v0) (some (.inl (b0, b1))) 4 [some (.ref v0), some (.int b0), some (.int b1)] [] (yH s h0) := tq_back J rfl rfl
theorem Efy_B_pulled_b4 {G : ai_G} {d : Nat} {h0 : ai_H} (hO : hOld G h0) (s : yS) (v0 : Nat) (b0 : Int32) (J : JV × JV) : Tj G (d + 2) 265 (Pfy_B_pulled_b4 G d h0 s v0) (some (.inr b0)) 60 [J.1.1, some (.int b0), J.2.1] [] (yH s h0) := tq_exit J rfl rfl
theorem wfy_B_pulled_b4 {G : ai_G} {d : Nat} {h0 : ai_H} (hO : hOld G h0) (s : yS) (v0 : Nat) (q : Int32 × Int32) (J : Unit) : Tj G (d + 2) 265 (Pfy_B_pulled_b4 G d h0 s v0) (fy_B_pulled_b4 G s v0 q) 4 [some (.ref v0), some (.int q.1), some (.int q.2)] [] (yH s h0) := by
  unfold fy_B_pulled_b4
  refine tq_iload_n dX0_pulled_4 rfl ?_
  refine tq_aload_n dX0_pulled_5 rfl ?_
  refine ty_v0_i dX0_pulled_6 rfl rfl rfl (Nat.le_of_ble_eq_true rfl) (wfy_B_boards hO (d := d) _ _) (fun p6 => ?_)
  refine tq_icmp_ge dX0_pulled_9 rfl ?_ ?_
  · exact Efy_B_pulled_b4 hO _ _ _ (⟨some (.ref v0), rfl⟩, ⟨some (.int q.2), rfl⟩)
  · refine tq_aload_n dX0_pulled_12 rfl ?_
    refine ty_gR dX0_pulled_13 rfl rfl (fun x13 => ?_)
    refine ty_gR dX0_pulled_16 rfl rfl (fun x16 => ?_)
    refine tq_aload_n dX0_pulled_19 rfl ?_
    refine ty_gR dX0_pulled_20 rfl rfl (fun x20 => ?_)
    refine tq_aload_n dX0_pulled_23 rfl ?_
    refine ty_gR dX0_pulled_24 rfl rfl (fun x24 => ?_)
    refine ty_gR dX0_pulled_27 rfl rfl (fun x27 => ?_)
    refine tq_iload_n dX0_pulled_30 rfl ?_
    refine ty_iald dX0_pulled_31 (fun x31 => ?_)
    refine tq_aload_n dX0_pulled_32 rfl ?_
    refine ty_gR dX0_pulled_33 rfl rfl (fun x33 => ?_)
    refine ty_gR dX0_pulled_36 rfl rfl (fun x36 => ?_)
    refine tq_iload_n dX0_pulled_39 rfl ?_
    refine ty_iald dX0_pulled_40 (fun x40 => ?_)
    refine ty_v2_i dX0_pulled_41 rfl rfl rfl (Nat.le_of_ble_eq_true rfl) (wfy_River_cell hO (d := d + 1) _ _ _ _) (fun p41 => ?_)
    refine ty_iald dX0_pulled_44 (fun x44 => ?_)
    refine tq_if_le dX0_pulled_45 rfl ?_ ?_
    · refine tq_iinc (v := (q.2 + 1)) (L' := [_, _, _]) dX0_pulled_54 rfl (Nat.le_of_ble_eq_true rfl) rfl rfl ?_
      refine tq_goto dX0_pulled_57 rfl ?_
      exact Bfy_B_pulled_b4 hO _ _ _ _ ()
    · refine tq_iload_n dX0_pulled_48 rfl ?_
      refine tq_iconst (v := 1) dX0_pulled_49 (by decide) ?_
      refine tq_iload_n dX0_pulled_50 rfl ?_
      refine tq_ishl dX0_pulled_51 ?_
      refine tq_ior dX0_pulled_52 ?_
      refine tq_istore_n (L' := [_, _, _]) dX0_pulled_53 (Nat.le_of_ble_eq_true rfl) rfl ?_
      refine tq_iinc (v := (q.2 + 1)) (L' := [_, _, _]) dX0_pulled_54 rfl (Nat.le_of_ble_eq_true rfl) rfl rfl ?_
      refine tq_goto dX0_pulled_57 rfl ?_
      exact Bfy_B_pulled_b4 hO _ _ _ _ ()
theorem Sfy_B_pulled_b4 {G : ai_G} {d : Nat} {h0 : ai_H} (hO : hOld G h0) {α : Type} {P : α → Option ai_R → Prop} (s : yS) (v0 : Nat) (b0 : Int32) (b1 : Int32) (J : Unit) {r : Int32 → Option α} (kk : ∀ (q : Int32) (J : JV × JV), Tj G (d + 2) 265 P (r q) 60 [J.1.1, some (.int q), J.2.1] [] (yH s h0)) : Tj G (d + 2) 265 P ((lp (fy_B_pulled_b4 G s v0) (b0, b1)).bind r) 4 [some (.ref v0), some (.int b0), some (.int b1)] [] (yH s h0) := tq_lp1 (J := J) (fun q J => wfy_B_pulled_b4 hO s v0 q J) rfl rfl kk
theorem wfy_B_pulled {G : ai_G} {d : Nat} {h0 : ai_H} (hO : hOld G h0) (s : yS) (v0 : Nat) : ∀ r, fy_B_pulled G s v0 = some r → (Pi (yH s h0)) r (ai_call G (d + 3) 265 [.ref v0] (yH s h0)) := by
  refine tq_meth (P := (Pi (yH s h0))) (d := (d + 2)) (Nat.le_of_ble_eq_true rfl) ?_
  show Tj G (d + 2) 265 (Pi (yH s h0)) (fy_B_pulled G s v0) 0 [some (.ref v0), none, none] [] (yH s h0)
  unfold fy_B_pulled
  refine tq_iconst (v := 0) dX0_pulled_0 (by decide) ?_
  refine tq_istore_n (L' := [_, _, _]) dX0_pulled_1 (Nat.le_of_ble_eq_true rfl) rfl ?_
  refine tq_iconst (v := 0) dX0_pulled_2 (by decide) ?_
  refine tq_istore_n (L' := [_, _, _]) dX0_pulled_3 (Nat.le_of_ble_eq_true rfl) rfl ?_
  refine Sfy_B_pulled_b4 hO _ _ _ _ () (fun q4 J4 => ?_)
  refine tq_iload_n dX0_pulled_60 rfl ?_
  exact tq_ireturn dX0_pulled_61 rfl rfl
theorem wfy_B_bearsYet {G : ai_G} {d : Nat} {h0 : ai_H} (hO : hOld G h0) (s : yS) (v0 : Nat) (v1 : Int32) : ∀ r, fy_B_bearsYet G s v0 v1 = some r → (Pi (yH s h0)) r (ai_call G (d + 4) 267 [.ref v0, .int v1] (yH s h0)) := by
  refine tq_meth (P := (Pi (yH s h0))) (d := (d + 3)) (Nat.le_of_ble_eq_true rfl) ?_
  show Tj G (d + 3) 267 (Pi (yH s h0)) (fy_B_bearsYet G s v0 v1) 0 [some (.ref v0), some (.int v1)] [] (yH s h0)
  unfold fy_B_bearsYet
  refine tq_aload_n dX0_bearsYet_0 rfl ?_
  refine ty_gR dX0_bearsYet_1 rfl rfl (fun x1 => ?_)
  refine ty_gR dX0_bearsYet_4 rfl rfl (fun x4 => ?_)
  refine tq_iload_n dX0_bearsYet_7 rfl ?_
  refine ty_v1_r dX0_bearsYet_8 rfl rfl rfl (Nat.le_of_ble_eq_true rfl) (wfy_List_get hO (d := d) _ _ _) (fun p8 => ?_)
  refine ty_cast dX0_bearsYet_11 rfl (fun _ => ?_)
  refine ty_gI dX0_bearsYet_14 rfl rfl (fun x14 => ?_)
  refine tq_aload_n dX0_bearsYet_17 rfl ?_
  refine ty_gR dX0_bearsYet_18 rfl rfl (fun x18 => ?_)
  refine ty_gR dX0_bearsYet_21 rfl rfl (fun x21 => ?_)
  refine tq_iload_n dX0_bearsYet_24 rfl ?_
  refine ty_iald dX0_bearsYet_25 (fun x25 => ?_)
  refine tq_isub dX0_bearsYet_26 ?_
  exact tq_ireturn dX0_bearsYet_27 rfl rfl
abbrev Pfy_B_hottest_b4 (G : ai_G) (d : Nat) (h0 : ai_H) (s : yS) (v0 : Nat) : (Int32 × Int32) ⊕ Int32 → Option ai_R → Prop := Sum.elim (fun (q : Int32 × Int32) run => ∃ J : Unit, run = ai_run G (d + 4) 268 4 [some (.ref v0), some (.int q.1), some (.int q.2)] [] (yH s h0)) (fun (q : Int32) run => ∃ J : JV × JV, run = ai_run G (d + 4) 268 37 [J.1.1, some (.int q), J.2.1] [] (yH s h0))
theorem Bfy_B_hottest_b4 {G : ai_G} {d : Nat} {h0 : ai_H} (hO : hOld G h0) (s : yS) (v0 : Nat) (b0 : Int32) (b1 : Int32) (J : Unit) : Tj G (d + 4) 268 (Pfy_B_hottest_b4 G d h0 s v0) (some (.inl (b0, b1))) 4 [some (.ref v0), some (.int b0), some (.int b1)] [] (yH s h0) := tq_back J rfl rfl
theorem Efy_B_hottest_b4 {G : ai_G} {d : Nat} {h0 : ai_H} (hO : hOld G h0) (s : yS) (v0 : Nat) (b0 : Int32) (J : JV × JV) : Tj G (d + 4) 268 (Pfy_B_hottest_b4 G d h0 s v0) (some (.inr b0)) 37 [J.1.1, some (.int b0), J.2.1] [] (yH s h0) := tq_exit J rfl rfl
theorem wfy_B_hottest_b4 {G : ai_G} {d : Nat} {h0 : ai_H} (hO : hOld G h0) (s : yS) (v0 : Nat) (q : Int32 × Int32) (J : Unit) : Tj G (d + 4) 268 (Pfy_B_hottest_b4 G d h0 s v0) (fy_B_hottest_b4 G s v0 q) 4 [some (.ref v0), some (.int q.1), some (.int q.2)] [] (yH s h0) := by
  unfold fy_B_hottest_b4
  refine tq_iload_n dX0_hottest_4 rfl ?_
  refine tq_aload_n dX0_hottest_5 rfl ?_
  refine ty_v0_i dX0_hottest_6 rfl rfl rfl (Nat.le_of_ble_eq_true rfl) (wfy_B_boards hO (d := d + 2) _ _) (fun p6 => ?_)
  refine tq_icmp_ge dX0_hottest_9 rfl ?_ ?_
  · exact Efy_B_hottest_b4 hO _ _ _ (⟨some (.ref v0), rfl⟩, ⟨some (.int q.2), rfl⟩)
  · refine tq_iload_n dX0_hottest_12 rfl ?_
    refine tq_if_lt dX0_hottest_13 rfl ?_ ?_
    · refine tq_iload_n dX0_hottest_29 rfl ?_
      refine tq_istore_n (L' := [_, _, _]) dX0_hottest_30 (Nat.le_of_ble_eq_true rfl) rfl ?_
      refine tq_iinc (v := (q.2 + 1)) (L' := [_, _, _]) dX0_hottest_31 rfl (Nat.le_of_ble_eq_true rfl) rfl rfl ?_
      refine tq_goto dX0_hottest_34 rfl ?_
      exact Bfy_B_hottest_b4 hO _ _ _ _ ()
    · refine tq_aload_n dX0_hottest_16 rfl ?_
      refine tq_iload_n dX0_hottest_17 rfl ?_
      refine ty_v1_i dX0_hottest_18 rfl rfl rfl (Nat.le_of_ble_eq_true rfl) (wfy_B_bearsYet hO (d := d) _ _ _) (fun p18 => ?_)
      refine tq_aload_n dX0_hottest_21 rfl ?_
      refine tq_iload_n dX0_hottest_22 rfl ?_
      refine ty_v1_i dX0_hottest_23 rfl rfl rfl (Nat.le_of_ble_eq_true rfl) (wfy_B_bearsYet hO (d := d) _ _ _) (fun p23 => ?_)
      refine tq_icmp_ge dX0_hottest_26 rfl ?_ ?_
      · refine tq_iinc (v := (q.2 + 1)) (L' := [_, _, _]) dX0_hottest_31 rfl (Nat.le_of_ble_eq_true rfl) rfl rfl ?_
        refine tq_goto dX0_hottest_34 rfl ?_
        exact Bfy_B_hottest_b4 hO _ _ _ _ ()
      · refine tq_iload_n dX0_hottest_29 rfl ?_
        refine tq_istore_n (L' := [_, _, _]) dX0_hottest_30 (Nat.le_of_ble_eq_true rfl) rfl ?_
        refine tq_iinc (v := (q.2 + 1)) (L' := [_, _, _]) dX0_hottest_31 rfl (Nat.le_of_ble_eq_true rfl) rfl rfl ?_
        refine tq_goto dX0_hottest_34 rfl ?_
        exact Bfy_B_hottest_b4 hO _ _ _ _ ()
theorem Sfy_B_hottest_b4 {G : ai_G} {d : Nat} {h0 : ai_H} (hO : hOld G h0) {α : Type} {P : α → Option ai_R → Prop} (s : yS) (v0 : Nat) (b0 : Int32) (b1 : Int32) (J : Unit) {r : Int32 → Option α} (kk : ∀ (q : Int32) (J : JV × JV), Tj G (d + 4) 268 P (r q) 37 [J.1.1, some (.int q), J.2.1] [] (yH s h0)) : Tj G (d + 4) 268 P ((lp (fy_B_hottest_b4 G s v0) (b0, b1)).bind r) 4 [some (.ref v0), some (.int b0), some (.int b1)] [] (yH s h0) := tq_lp1 (J := J) (fun q J => wfy_B_hottest_b4 hO s v0 q J) rfl rfl kk
theorem wfy_B_hottest {G : ai_G} {d : Nat} {h0 : ai_H} (hO : hOld G h0) (s : yS) (v0 : Nat) : ∀ r, fy_B_hottest G s v0 = some r → (Pi (yH s h0)) r (ai_call G (d + 5) 268 [.ref v0] (yH s h0)) := by
  refine tq_meth (P := (Pi (yH s h0))) (d := (d + 4)) (Nat.le_of_ble_eq_true rfl) ?_
  show Tj G (d + 4) 268 (Pi (yH s h0)) (fy_B_hottest G s v0) 0 [some (.ref v0), none, none] [] (yH s h0)
  unfold fy_B_hottest
  refine tq_iconst (v := (-1)) dX0_hottest_0 (by decide) ?_
  refine tq_istore_n (L' := [_, _, _]) dX0_hottest_1 (Nat.le_of_ble_eq_true rfl) rfl ?_
  refine tq_iconst (v := 0) dX0_hottest_2 (by decide) ?_
  refine tq_istore_n (L' := [_, _, _]) dX0_hottest_3 (Nat.le_of_ble_eq_true rfl) rfl ?_
  refine Sfy_B_hottest_b4 hO _ _ _ _ () (fun q4 J4 => ?_)
  refine tq_iload_n dX0_hottest_37 rfl ?_
  exact tq_ireturn dX0_hottest_38 rfl rfl
abbrev Pfy_B_law_b16 (G : ai_G) (d : Nat) (h0 : ai_H) (s : yS) (v0 : Nat) (v1 : Int32) : (Int32 × Int32) ⊕ Int32 → Option ai_R → Prop := Sum.elim (fun (q : Int32 × Int32) run => ∃ J : Unit, run = ai_run G (d + 3) 270 16 [some (.ref v0), some (.int v1), some (.int q.1), some (.int q.2)] [] (yH s h0)) (fun (q : Int32) run => ∃ J : JV × JV × JV, run = ai_run G (d + 3) 270 67 [J.1.1, J.2.1.1, some (.int q), J.2.2.1] [] (yH s h0))
theorem Bfy_B_law_b16 {G : ai_G} {d : Nat} {h0 : ai_H} (hO : hOld G h0) (s : yS) (v0 : Nat) (v1 : Int32) (b0 : Int32) (b1 : Int32) (J : Unit) : Tj G (d + 3) 270 (Pfy_B_law_b16 G d h0 s v0 v1) (some (.inl (b0, b1))) 16 [some (.ref v0), some (.int v1), some (.int b0), some (.int b1)] [] (yH s h0) := tq_back J rfl rfl
theorem Efy_B_law_b16 {G : ai_G} {d : Nat} {h0 : ai_H} (hO : hOld G h0) (s : yS) (v0 : Nat) (v1 : Int32) (b0 : Int32) (J : JV × JV × JV) : Tj G (d + 3) 270 (Pfy_B_law_b16 G d h0 s v0 v1) (some (.inr b0)) 67 [J.1.1, J.2.1.1, some (.int b0), J.2.2.1] [] (yH s h0) := tq_exit J rfl rfl
theorem wfy_B_law_b16 {G : ai_G} {d : Nat} {h0 : ai_H} (hO : hOld G h0) (s : yS) (v0 : Nat) (v1 : Int32) (q : Int32 × Int32) (J : Unit) : Tj G (d + 3) 270 (Pfy_B_law_b16 G d h0 s v0 v1) (fy_B_law_b16 G s v0 v1 q) 16 [some (.ref v0), some (.int v1), some (.int q.1), some (.int q.2)] [] (yH s h0) := by
  unfold fy_B_law_b16
  refine tq_iload_n dX0_law_16 rfl ?_
  refine tq_aload_n dX0_law_17 rfl ?_
  refine ty_v0_i dX0_law_18 rfl rfl rfl (Nat.le_of_ble_eq_true rfl) (wfy_B_loads hO (d := d + 1) _ _) (fun p18 => ?_)
  refine tq_icmp_ge dX0_law_21 rfl ?_ ?_
  · exact Efy_B_law_b16 hO _ _ _ _ (⟨some (.ref v0), rfl⟩, ⟨some (.int v1), rfl⟩, ⟨some (.int q.2), rfl⟩)
  · refine tq_aload_n dX0_law_24 rfl ?_
    refine ty_gR dX0_law_25 rfl rfl (fun x25 => ?_)
    refine ty_gR dX0_law_28 rfl rfl (fun x28 => ?_)
    refine tq_iload_n dX0_law_31 rfl ?_
    refine ty_iald dX0_law_32 (fun x32 => ?_)
    refine tq_iconst (v := (-1)) dX0_law_33 (by decide) ?_
    refine tq_icmp_ne dX0_law_34 rfl ?_ ?_
    · refine tq_iinc (v := (q.2 + 1)) (L' := [_, _, _, _]) dX0_law_61 rfl (Nat.le_of_ble_eq_true rfl) rfl rfl ?_
      refine tq_goto dX0_law_64 rfl ?_
      exact Bfy_B_law_b16 hO _ _ _ _ _ ()
    · refine tq_aload_n dX0_law_37 rfl ?_
      refine ty_gR dX0_law_38 rfl rfl (fun x38 => ?_)
      refine ty_gR dX0_law_41 rfl rfl (fun x41 => ?_)
      refine tq_iload_n dX0_law_44 rfl ?_
      refine ty_v1_r dX0_law_45 rfl rfl rfl (Nat.le_of_ble_eq_true rfl) (wfy_List_get hO (d := d) _ _ _) (fun p45 => ?_)
      refine ty_cast dX0_law_48 rfl (fun _ => ?_)
      refine ty_gI dX0_law_51 rfl rfl (fun x51 => ?_)
      refine tq_iload_n dX0_law_54 rfl ?_
      refine tq_icmp_gt dX0_law_55 rfl ?_ ?_
      · refine tq_iinc (v := (q.2 + 1)) (L' := [_, _, _, _]) dX0_law_61 rfl (Nat.le_of_ble_eq_true rfl) rfl rfl ?_
        refine tq_goto dX0_law_64 rfl ?_
        exact Bfy_B_law_b16 hO _ _ _ _ _ ()
      · refine tq_iinc (v := (q.1 + 1)) (L' := [_, _, _, _]) dX0_law_58 rfl (Nat.le_of_ble_eq_true rfl) rfl rfl ?_
        refine tq_iinc (v := (q.2 + 1)) (L' := [_, _, _, _]) dX0_law_61 rfl (Nat.le_of_ble_eq_true rfl) rfl rfl ?_
        refine tq_goto dX0_law_64 rfl ?_
        exact Bfy_B_law_b16 hO _ _ _ _ _ ()
theorem Sfy_B_law_b16 {G : ai_G} {d : Nat} {h0 : ai_H} (hO : hOld G h0) {α : Type} {P : α → Option ai_R → Prop} (s : yS) (v0 : Nat) (v1 : Int32) (b0 : Int32) (b1 : Int32) (J : Unit) {r : Int32 → Option α} (kk : ∀ (q : Int32) (J : JV × JV × JV), Tj G (d + 3) 270 P (r q) 67 [J.1.1, J.2.1.1, some (.int q), J.2.2.1] [] (yH s h0)) : Tj G (d + 3) 270 P ((lp (fy_B_law_b16 G s v0 v1) (b0, b1)).bind r) 16 [some (.ref v0), some (.int v1), some (.int b0), some (.int b1)] [] (yH s h0) := tq_lp1 (J := J) (fun q J => wfy_B_law_b16 hO s v0 v1 q J) rfl rfl kk
theorem wfy_B_law {G : ai_G} {d : Nat} {h0 : ai_H} (hO : hOld G h0) (s : yS) (v0 : Nat) (v1 : Int32) : ∀ r, fy_B_law G s v0 v1 = some r → (Pi (yH s h0)) r (ai_call G (d + 4) 270 [.ref v0, .int v1] (yH s h0)) := by
  refine tq_meth (P := (Pi (yH s h0))) (d := (d + 3)) (Nat.le_of_ble_eq_true rfl) ?_
  show Tj G (d + 3) 270 (Pi (yH s h0)) (fy_B_law G s v0 v1) 0 [some (.ref v0), some (.int v1), none, none] [] (yH s h0)
  unfold fy_B_law
  refine tq_iload_n dX0_law_0 rfl ?_
  refine tq_iconst (v := 0) dX0_law_1 (by decide) ?_
  refine tq_bipush (v := 99) dX0_law_2 (by decide) ?_
  refine ty_s3_pi dX0_law_4 rfl rfl rfl (Nat.le_of_ble_eq_true rfl) (wfy_B_isIn (d := d + 2) _ _ _) (fun p4 => ?_)
  refine tq_if_ne dX0_law_7 rfl ?_ ?_
  · refine tq_iconst (v := 0) dX0_law_12 (by decide) ?_
    refine tq_istore_n (L' := [_, _, _, _]) dX0_law_13 (Nat.le_of_ble_eq_true rfl) rfl ?_
    refine tq_iconst (v := 0) dX0_law_14 (by decide) ?_
    refine tq_istore_n (L' := [_, _, _, _]) dX0_law_15 (Nat.le_of_ble_eq_true rfl) rfl ?_
    refine Sfy_B_law_b16 hO _ _ _ _ _ () (fun q16 J16 => ?_)
    refine tq_iload_n dX0_law_67 rfl ?_
    exact tq_ireturn dX0_law_68 rfl rfl
  · refine tq_iconst (v := (-1)) dX0_law_10 (by decide) ?_
    exact tq_ireturn dX0_law_11 rfl rfl
theorem wfy_B_lies {G : ai_G} {d : Nat} {h0 : ai_H} (hO : hOld G h0) (s : yS) (v0 : Nat) (v1 : Int32) : ∀ r, fy_B_lies G s v0 v1 = some r → (Pi (yH s h0)) r (ai_call G (d + 2) 272 [.ref v0, .int v1] (yH s h0)) := by
  refine tq_meth (P := (Pi (yH s h0))) (d := (d + 1)) (Nat.le_of_ble_eq_true rfl) ?_
  show Tj G (d + 1) 272 (Pi (yH s h0)) (fy_B_lies G s v0 v1) 0 [some (.ref v0), some (.int v1)] [] (yH s h0)
  unfold fy_B_lies
  refine tq_iload_n dX0_lies_0 rfl ?_
  refine tq_iconst (v := 0) dX0_lies_1 (by decide) ?_
  refine tq_aload_n dX0_lies_2 rfl ?_
  refine ty_gI dX0_lies_3 rfl rfl (fun x3 => ?_)
  refine tq_iconst (v := 1) dX0_lies_6 (by decide) ?_
  refine tq_isub dX0_lies_7 ?_
  refine ty_s3_pi dX0_lies_8 rfl rfl rfl (Nat.le_of_ble_eq_true rfl) (wfy_B_isIn (d := d) _ _ _) (fun p8 => ?_)
  refine tq_if_eq dX0_lies_11 rfl ?_ ?_
  · refine tq_bipush (v := (-2)) dX0_lies_23 (by decide) ?_
    exact tq_ireturn dX0_lies_25 rfl rfl
  · refine tq_aload_n dX0_lies_14 rfl ?_
    refine ty_gR dX0_lies_15 rfl rfl (fun x15 => ?_)
    refine tq_iload_n dX0_lies_18 rfl ?_
    refine ty_iald dX0_lies_19 (fun x19 => ?_)
    refine tq_goto dX0_lies_20 rfl ?_
    exact tq_ireturn dX0_lies_25 rfl rfl
theorem wfy_Sight_init {G : ai_G} {d : Nat} {h0 : ai_H} (hO : hOld G h0) (s : yS) (v0 : Nat) (v1 : Int32) (v2 : Int32) (v3 : Int32) (v4 : Int32) (v5 : Int32) : ∀ r, fy_Sight_init G s v0 v1 v2 v3 v4 v5 = some r → (PyV h0) r (ai_call G (d + 1) 274 [.ref v0, .int v1, .int v2, .int v3, .int v4, .int v5] (yH s h0)) := by
  refine tq_meth (P := (PyV h0)) (d := d) (Nat.le_of_ble_eq_true rfl) ?_
  show Tj G d 274 (PyV h0) (fy_Sight_init G s v0 v1 v2 v3 v4 v5) 0 [some (.ref v0), some (.int v1), some (.int v2), some (.int v3), some (.int v4), some (.int v5)] [] (yH s h0)
  unfold fy_Sight_init
  refine tq_aload_n dX18_init_0 rfl ?_
  refine tq_objI dX18_init_1 rfl (Nat.le_of_ble_eq_true rfl) ?_
  refine tq_aload_n dX18_init_4 rfl ?_
  refine tq_iconst (v := (-1)) dX18_init_5 (by decide) ?_
  refine ty_wI dX18_init_6 rfl rfl rfl (fun s6 => ?_)
  refine tq_aload_n dX18_init_9 rfl ?_
  refine tq_iload_n dX18_init_10 rfl ?_
  refine ty_wI dX18_init_11 rfl rfl rfl (fun s11 => ?_)
  refine tq_aload_n dX18_init_14 rfl ?_
  refine tq_iload_n dX18_init_15 rfl ?_
  refine ty_wI dX18_init_16 rfl rfl rfl (fun s16 => ?_)
  refine tq_aload_n dX18_init_19 rfl ?_
  refine tq_iload_n dX18_init_20 rfl ?_
  refine ty_wZ dX18_init_21 rfl rfl rfl (fun s21 => ?_)
  refine tq_aload_n dX18_init_24 rfl ?_
  refine tq_iload dX18_init_25 rfl ?_
  refine ty_wZ dX18_init_27 rfl rfl rfl (fun s27 => ?_)
  refine tq_aload_n dX18_init_30 rfl ?_
  refine tq_iload dX18_init_31 rfl ?_
  refine ty_wI dX18_init_33 rfl rfl rfl (fun s33 => ?_)
  exact tq_return dX18_init_36 rfl rfl
theorem wfy_B_see {G : ai_G} {d : Nat} {h0 : ai_H} (hO : hOld G h0) (s : yS) (v0 : Nat) (v1 : Int32) (v2 : Int32) (v3 : Int32) (v4 : Int32) : ∀ r, fy_B_see G s v0 v1 v2 v3 v4 = some r → (PyI h0) r (ai_call G (d + 7) 275 [.ref v0, .int v1, .int v2, .int v3, .int v4] (yH s h0)) := by
  refine tq_meth (P := (PyI h0)) (d := (d + 6)) (Nat.le_of_ble_eq_true rfl) ?_
  show Tj G (d + 6) 275 (PyI h0) (fy_B_see G s v0 v1 v2 v3 v4) 0 [some (.ref v0), some (.int v1), some (.int v2), some (.int v3), some (.int v4)] [] (yH s h0)
  unfold fy_B_see
  refine tq_aload_n dX0_see_0 rfl ?_
  refine ty_v0_i dX0_see_1 rfl rfl rfl (Nat.le_of_ble_eq_true rfl) (wfy_B_boards hO (d := d + 4) _ _) (fun p1 => ?_)
  refine tq_if_eq dX0_see_4 rfl ?_ ?_
  · refine tq_iconst (v := (-1)) dX0_see_34 (by decide) ?_
    exact tq_ireturn dX0_see_35 rfl rfl
  · refine tq_iload_n dX0_see_7 rfl ?_
    refine tq_iconst (v := 1) dX0_see_8 (by decide) ?_
    refine tq_aload_n dX0_see_9 rfl ?_
    refine ty_gR dX0_see_10 rfl rfl (fun x10 => ?_)
    refine ty_gI dX0_see_13 rfl rfl (fun x13 => ?_)
    refine ty_s3_pi dX0_see_16 rfl rfl rfl (Nat.le_of_ble_eq_true rfl) (wfy_B_isIn (d := d + 5) _ _ _) (fun p16 => ?_)
    refine tq_if_eq dX0_see_19 rfl ?_ ?_
    · refine tq_iconst (v := (-1)) dX0_see_34 (by decide) ?_
      exact tq_ireturn dX0_see_35 rfl rfl
    · refine tq_aload_n dX0_see_22 rfl ?_
      refine ty_gR dX0_see_23 rfl rfl (fun x23 => ?_)
      refine ty_v0_i dX0_see_26 rfl rfl rfl (Nat.le_of_ble_eq_true rfl) (wfy_List_size hO (d := d + 5) _ _) (fun p26 => ?_)
      refine tq_bipush (v := 30) dX0_see_29 (by decide) ?_
      refine tq_icmp_ne dX0_see_31 rfl ?_ ?_
      · refine tq_aload_n dX0_see_36 rfl ?_
        refine ty_gR dX0_see_37 rfl rfl (fun x37 => ?_)
        refine ty_new dX0_see_40 rfl (fun s40 => ?_)
        refine tq_dup dX0_see_43 rfl ?_
        refine tq_iload_n dX0_see_44 rfl ?_
        refine tq_iconst (v := 1) dX0_see_45 (by decide) ?_
        refine tq_isub dX0_see_46 ?_
        refine tq_iload_n dX0_see_47 rfl ?_
        refine tq_iload_n dX0_see_48 rfl ?_
        refine tq_iload dX0_see_49 rfl ?_
        refine tq_aload_n dX0_see_51 rfl ?_
        refine ty_gI dX0_see_52 rfl rfl (fun x52 => ?_)
        refine ty_c5_V dX0_see_55 rfl rfl rfl (Nat.le_of_ble_eq_true rfl) (wfy_Sight_init hO (d := d + 5) _ _ _ _ _ _ _) (fun p55 => ?_)
        refine ty_v1_I dX0_see_58 rfl rfl rfl (Nat.le_of_ble_eq_true rfl) (wfy_List_add hO (d := d) _ _ _) (fun p58 => ?_)
        refine tq_pop dX0_see_61 rfl ?_
        refine tq_aload_n dX0_see_62 rfl ?_
        refine ty_gR dX0_see_63 rfl rfl (fun x63 => ?_)
        refine ty_v0_i dX0_see_66 rfl rfl rfl (Nat.le_of_ble_eq_true rfl) (wfy_List_size hO (d := d + 5) _ _) (fun p66 => ?_)
        refine tq_iconst (v := 1) dX0_see_69 (by decide) ?_
        refine tq_isub dX0_see_70 ?_
        exact tq_ireturn dX0_see_71 rfl rfl
      · refine tq_iconst (v := (-1)) dX0_see_34 (by decide) ?_
        exact tq_ireturn dX0_see_35 rfl rfl
theorem wfy_B_passed {G : ai_G} {d : Nat} {h0 : ai_H} (hO : hOld G h0) (s : yS) (v0 : Nat) (v1 : Int32) (v2 : Int32) (v3 : Int32) : ∀ r, fy_B_passed G s v0 v1 v2 v3 = some r → (PyI h0) r (ai_call G (d + 8) 276 [.ref v0, .int v1, .int v2, .int v3] (yH s h0)) := by
  refine tq_meth (P := (PyI h0)) (d := (d + 7)) (Nat.le_of_ble_eq_true rfl) ?_
  show Tj G (d + 7) 276 (PyI h0) (fy_B_passed G s v0 v1 v2 v3) 0 [some (.ref v0), some (.int v1), some (.int v2), some (.int v3)] [] (yH s h0)
  unfold fy_B_passed
  refine tq_iload_n dX0_passed_0 rfl ?_
  refine tq_iconst (v := 0) dX0_passed_1 (by decide) ?_
  refine tq_bipush (v := 7) dX0_passed_2 (by decide) ?_
  refine ty_s3_pi dX0_passed_4 rfl rfl rfl (Nat.le_of_ble_eq_true rfl) (wfy_B_isIn (d := d + 6) _ _ _) (fun p4 => ?_)
  refine tq_if_eq dX0_passed_7 rfl ?_ ?_
  · refine tq_iconst (v := (-1)) dX0_passed_21 (by decide) ?_
    exact tq_ireturn dX0_passed_22 rfl rfl
  · refine tq_aload_n dX0_passed_10 rfl ?_
    refine tq_iload_n dX0_passed_11 rfl ?_
    refine tq_iload_n dX0_passed_12 rfl ?_
    refine tq_iconst (v := 0) dX0_passed_13 (by decide) ?_
    refine tq_iload_n dX0_passed_14 rfl ?_
    refine ty_v4_I dX0_passed_15 rfl rfl rfl (Nat.le_of_ble_eq_true rfl) (wfy_B_see hO (d := d) _ _ _ _ _ _) (fun p15 => ?_)
    refine tq_goto dX0_passed_18 rfl ?_
    exact tq_ireturn dX0_passed_22 rfl rfl

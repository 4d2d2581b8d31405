/-! WALKS of the component (printed by tools/decy.py) -/
set_option maxRecDepth 100000
abbrev Pfy_Reader_next_b8 (G : ai_G) (d : Nat) (h0 : ai_H) (v0 : Nat) : yS ⊕ yS → Option ai_R → Prop := Sum.elim (fun (q : yS) run => ∃ J : JV, run = ai_run G (d + 2) 33 8 [some (.ref v0), J.1] [] (yH q h0)) (fun (q : yS) run => ∃ J : JV, run = ai_run G (d + 2) 33 58 [some (.ref v0), J.1] [] (yH q h0))
theorem Bfy_Reader_next_b8 {G : ai_G} {d : Nat} {h0 : ai_H} (hO : hOld G h0) (v0 : Nat) (b0 : yS) (J : JV) : Tj G (d + 2) 33 (Pfy_Reader_next_b8 G d h0 v0) (some (.inl b0)) 8 [some (.ref v0), J.1] [] (yH b0 h0) := tq_back J rfl rfl
theorem Efy_Reader_next_b8 {G : ai_G} {d : Nat} {h0 : ai_H} (hO : hOld G h0) (v0 : Nat) (b0 : yS) (J : JV) : Tj G (d + 2) 33 (Pfy_Reader_next_b8 G d h0 v0) (some (.inr b0)) 58 [some (.ref v0), J.1] [] (yH b0 h0) := tq_exit J rfl rfl
theorem wfy_Reader_next_j45 {G : ai_G} {d : Nat} {h0 : ai_H} (hO : hOld G h0) (j1 : JV)   (s : yS) (v0 : Nat): Tj G (d + 2) 33 (Pfy_Reader_next_b8 G d h0 v0) (fy_Reader_next_j45 G s v0) 45 [some (.ref v0), j1.1] [] (yH s h0) := by
  unfold fy_Reader_next_j45
  refine tq_aload_n dX9_next_45 rfl ?_
  refine tq_dup dX9_next_46 rfl ?_
  refine ty_gI dX9_next_47 rfl rfl (fun x47 => ?_)
  refine tq_iconst (v := 1) dX9_next_50 (by decide) ?_
  refine tq_iadd dX9_next_51 ?_
  refine ty_wI dX9_next_52 rfl rfl rfl (fun s52 => ?_)
  refine tq_goto dX9_next_55 rfl ?_
  exact Bfy_Reader_next_b8 hO _ _ j1
theorem wfy_Reader_next_b8 {G : ai_G} {d : Nat} {h0 : ai_H} (hO : hOld G h0) (v0 : Nat) (q : yS) (J : JV) : Tj G (d + 2) 33 (Pfy_Reader_next_b8 G d h0 v0) (fy_Reader_next_b8 G v0 q) 8 [some (.ref v0), J.1] [] (yH q h0) := by
  unfold fy_Reader_next_b8
  refine tq_aload_n dX9_next_8 rfl ?_
  refine ty_gI dX9_next_9 rfl rfl (fun x9 => ?_)
  refine tq_aload_n dX9_next_12 rfl ?_
  refine ty_gI dX9_next_13 rfl rfl (fun x13 => ?_)
  refine tq_icmp_ge dX9_next_16 rfl ?_ ?_
  · exact Efy_Reader_next_b8 hO _ _ J
  · refine tq_aload_n dX9_next_19 rfl ?_
    refine tq_aload_n dX9_next_20 rfl ?_
    refine ty_gI dX9_next_21 rfl rfl (fun x21 => ?_)
    refine ty_v1_i dX9_next_24 rfl rfl rfl (Nat.le_of_ble_eq_true rfl) (wfy_Reader_sign hO (d := d + 1) _ _ _) (fun p24 => ?_)
    refine tq_bipush (v := 32) dX9_next_27 (by decide) ?_
    refine tq_icmp_eq dX9_next_29 rfl ?_ ?_
    · exact wfy_Reader_next_j45 hO J _ _
    · refine tq_aload_n dX9_next_32 rfl ?_
      refine tq_aload_n dX9_next_33 rfl ?_
      refine ty_gI dX9_next_34 rfl rfl (fun x34 => ?_)
      refine ty_v1_i dX9_next_37 rfl rfl rfl (Nat.le_of_ble_eq_true rfl) (wfy_Reader_sign hO (d := d + 1) _ _ _) (fun p37 => ?_)
      refine tq_bipush (v := 10) dX9_next_40 (by decide) ?_
      refine tq_icmp_ne dX9_next_42 rfl ?_ ?_
      · exact Efy_Reader_next_b8 hO _ _ J
      · exact wfy_Reader_next_j45 hO J _ _
theorem Sfy_Reader_next_b8 {G : ai_G} {d : Nat} {h0 : ai_H} (hO : hOld G h0) {α : Type} {P : α → Option ai_R → Prop} (v0 : Nat) (b0 : yS) (J : JV) {r : yS → Option α} (kk : ∀ (q : yS) (J : JV), Tj G (d + 2) 33 P (r q) 58 [some (.ref v0), J.1] [] (yH q h0)) : Tj G (d + 2) 33 P ((lp (fy_Reader_next_b8 G v0) b0).bind r) 8 [some (.ref v0), J.1] [] (yH b0 h0) := tq_lp1 (J := J) (fun q J => wfy_Reader_next_b8 hO v0 q J) rfl rfl kk
theorem wfy_Reader_next_j92 {G : ai_G} {d : Nat} {h0 : ai_H} (hO : hOld G h0)    (s : yS) (v0 : Nat) (v1 : Int32) (t0 : Nat) (t1 : Int32): Tj G (d + 2) 33 (PyV h0) (fy_Reader_next_j92 G s v0 v1 t0 t1) 92 [some (.ref v0), some (.int v1)] [.int t1, .ref t0] (yH s h0) := by
  unfold fy_Reader_next_j92
  refine ty_wI dX9_next_92 rfl rfl rfl (fun s92 => ?_)
  refine tq_aload_n dX9_next_95 rfl ?_
  refine ty_gI dX9_next_96 rfl rfl (fun x96 => ?_)
  refine tq_aload_n dX9_next_99 rfl ?_
  refine ty_gI dX9_next_100 rfl rfl (fun x100 => ?_)
  refine tq_icmp_lt dX9_next_103 rfl ?_ ?_
  · refine tq_iload_n dX9_next_114 rfl ?_
    refine ty_s1_pi dX9_next_115 rfl rfl rfl (Nat.le_of_ble_eq_true rfl) (wfy_Reader_isLetter (d := d + 1) _) (fun p115 => ?_)
    refine tq_if_eq dX9_next_118 rfl ?_ ?_
    · refine tq_iload_n dX9_next_128 rfl ?_
      refine ty_s1_pi dX9_next_129 rfl rfl rfl (Nat.le_of_ble_eq_true rfl) (wfy_Reader_isDigit (d := d + 1) _) (fun p129 => ?_)
      refine tq_if_eq dX9_next_132 rfl ?_ ?_
      · refine tq_aload_n dX9_next_142 rfl ?_
        refine tq_iload_n dX9_next_143 rfl ?_
        refine ty_s1_pi dX9_next_144 rfl rfl rfl (Nat.le_of_ble_eq_true rfl) (wfy_Reader_isSign (d := d + 1) _) (fun p144 => ?_)
        refine tq_if_eq dX9_next_147 rfl ?_ ?_
        · refine tq_iconst (v := 4) dX9_next_154 (by decide) ?_
          refine ty_wI dX9_next_155 rfl rfl rfl (fun s155 => ?_)
          exact tq_return dX9_next_158 rfl rfl
        · refine tq_iconst (v := 3) dX9_next_150 (by decide) ?_
          refine tq_goto dX9_next_151 rfl ?_
          refine ty_wI dX9_next_155 rfl rfl rfl (fun s155 => ?_)
          exact tq_return dX9_next_158 rfl rfl
      · refine tq_aload_n dX9_next_135 rfl ?_
        refine ty_v0_V dX9_next_136 rfl rfl rfl (Nat.le_of_ble_eq_true rfl) (wfy_Reader_readNumber hO (d := d) _ _) (fun p136 => ?_)
        refine tq_goto dX9_next_139 rfl ?_
        exact tq_return dX9_next_158 rfl rfl
    · refine tq_aload_n dX9_next_121 rfl ?_
      refine ty_v0_V dX9_next_122 rfl rfl rfl (Nat.le_of_ble_eq_true rfl) (wfy_Reader_readWord hO (d := d) _ _) (fun p122 => ?_)
      refine tq_goto dX9_next_125 rfl ?_
      exact tq_return dX9_next_158 rfl rfl
  · refine tq_aload_n dX9_next_106 rfl ?_
    refine tq_iconst (v := 0) dX9_next_107 (by decide) ?_
    refine ty_wI dX9_next_108 rfl rfl rfl (fun s108 => ?_)
    refine tq_goto dX9_next_111 rfl ?_
    exact tq_return dX9_next_158 rfl rfl
theorem wfy_Reader_next_j58 {G : ai_G} {d : Nat} {h0 : ai_H} (hO : hOld G h0) (j1 : JV)   (s : yS) (v0 : Nat): Tj G (d + 2) 33 (PyV h0) (fy_Reader_next_j58 G s v0) 58 [some (.ref v0), j1.1] [] (yH s h0) := by
  unfold fy_Reader_next_j58
  refine tq_aload_n dX9_next_58 rfl ?_
  refine tq_aload_n dX9_next_59 rfl ?_
  refine ty_gI dX9_next_60 rfl rfl (fun x60 => ?_)
  refine ty_v1_i dX9_next_63 rfl rfl rfl (Nat.le_of_ble_eq_true rfl) (wfy_Reader_sign hO (d := d + 1) _ _ _) (fun p63 => ?_)
  refine tq_istore_n (L' := [_, _]) dX9_next_66 (Nat.le_of_ble_eq_true rfl) rfl ?_
  refine tq_aload_n dX9_next_67 rfl ?_
  refine tq_aload_n dX9_next_68 rfl ?_
  refine ty_gI dX9_next_69 rfl rfl (fun x69 => ?_)
  refine tq_aload_n dX9_next_72 rfl ?_
  refine ty_gI dX9_next_73 rfl rfl (fun x73 => ?_)
  refine tq_icmp_ge dX9_next_76 rfl ?_ ?_
  · refine tq_aload_n dX9_next_88 rfl ?_
    refine ty_gI dX9_next_89 rfl rfl (fun x89 => ?_)
    exact wfy_Reader_next_j92 hO _ _ _ _ _
  · refine tq_aload_n dX9_next_79 rfl ?_
    refine ty_gI dX9_next_80 rfl rfl (fun x80 => ?_)
    refine tq_iconst (v := 1) dX9_next_83 (by decide) ?_
    refine tq_iadd dX9_next_84 ?_
    refine tq_goto dX9_next_85 rfl ?_
    exact wfy_Reader_next_j92 hO _ _ _ _ _
theorem wfy_Reader_next {G : ai_G} {d : Nat} {h0 : ai_H} (hO : hOld G h0) (s : yS) (v0 : Nat) : ∀ r, fy_Reader_next G s v0 = some r → (PyV h0) r (ai_call G (d + 3) 33 [.ref v0] (yH s h0)) := by
  refine tq_meth (P := (PyV h0)) (d := (d + 2)) (Nat.le_of_ble_eq_true rfl) ?_
  show Tj G (d + 2) 33 (PyV h0) (fy_Reader_next G s v0) 0 [some (.ref v0), none] [] (yH s h0)
  unfold fy_Reader_next
  refine tq_aload_n dX9_next_0 rfl ?_
  refine tq_aload_n dX9_next_1 rfl ?_
  refine ty_gI dX9_next_2 rfl rfl (fun x2 => ?_)
  refine ty_wI dX9_next_5 rfl rfl rfl (fun s5 => ?_)
  refine Sfy_Reader_next_b8 hO _ _ ⟨none, rfl⟩ (fun q8 J8 => ?_)
  exact wfy_Reader_next_j58 hO J8 _ _
theorem wfy_J7_coder {G : ai_G} {d : Nat} {h0 : ai_H} (hO : hOld G h0) (s : yS) (v0 : Nat) : ∀ r, fy_J7_coder G s v0 = some r → (Pi (yH s h0)) r (ai_call G (d + 1) 34 [.ref v0] (yH s h0)) := by
  refine tq_meth (P := (Pi (yH s h0))) (d := d) (Nat.le_of_ble_eq_true rfl) ?_
  show Tj G d 34 (Pi (yH s h0)) (fy_J7_coder G s v0) 0 [some (.ref v0)] [] (yH s h0)
  unfold fy_J7_coder
  refine ty_getsI (k9 := 51) dJ7_coder_0 rfl (fun x0 => ?_)
  refine tq_if_eq dJ7_coder_3 rfl ?_ ?_
  · refine tq_iconst (v := 1) dJ7_coder_13 (by decide) ?_
    exact tq_iretG dJ7_coder_14 rfl rfl rfl
  · refine tq_aload_n dJ7_coder_6 rfl ?_
    refine ty_gOI hO dJ7_coder_7 rfl (fun x7 => ?_)
    refine tq_goto dJ7_coder_10 rfl ?_
    exact tq_iretG dJ7_coder_14 rfl rfl rfl
theorem wfy_J7_length {G : ai_G} {d : Nat} {h0 : ai_H} (hO : hOld G h0) (s : yS) (v0 : Nat) : ∀ r, fy_J7_length G s v0 = some r → (Pi (yH s h0)) r (ai_call G (d + 2) 35 [.ref v0] (yH s h0)) := by
  refine tq_meth (P := (Pi (yH s h0))) (d := (d + 1)) (Nat.le_of_ble_eq_true rfl) ?_
  show Tj G (d + 1) 35 (Pi (yH s h0)) (fy_J7_length G s v0) 0 [some (.ref v0)] [] (yH s h0)
  unfold fy_J7_length
  refine tq_aload_n dJ7_length_0 rfl ?_
  refine ty_gOR hO dJ7_length_1 rfl (fun x1 => ?_)
  refine ty_alen hO dJ7_length_4 (fun x4 => ?_)
  refine tq_aload_n dJ7_length_5 rfl ?_
  refine ty_o0_i hO dJ7_length_6 rfl rfl rfl (Nat.le_of_ble_eq_true rfl) (wfy_J7_coder hO (d := d) _ _) (fun p6 => ?_)
  refine tq_ishr dJ7_length_9 ?_
  exact tq_ireturn dJ7_length_10 rfl rfl
theorem wfy_J7_isLatin1 {G : ai_G} {d : Nat} {h0 : ai_H} (hO : hOld G h0) (s : yS) (v0 : Nat) : ∀ r, fy_J7_isLatin1 G s v0 = some r → (Pi (yH s h0)) r (ai_call G (d + 1) 36 [.ref v0] (yH s h0)) := by
  refine tq_meth (P := (Pi (yH s h0))) (d := d) (Nat.le_of_ble_eq_true rfl) ?_
  show Tj G d 36 (Pi (yH s h0)) (fy_J7_isLatin1 G s v0) 0 [some (.ref v0)] [] (yH s h0)
  unfold fy_J7_isLatin1
  refine ty_getsI (k9 := 51) dJ7_isLatin1_0 rfl (fun x0 => ?_)
  refine tq_if_eq dJ7_isLatin1_3 rfl ?_ ?_
  · refine tq_iconst (v := 0) dJ7_isLatin1_17 (by decide) ?_
    exact tq_ireturn dJ7_isLatin1_18 (by decide) rfl
  · refine tq_aload_n dJ7_isLatin1_6 rfl ?_
    refine ty_gOI hO dJ7_isLatin1_7 rfl (fun x7 => ?_)
    refine tq_if_ne dJ7_isLatin1_10 rfl ?_ ?_
    · refine tq_iconst (v := 0) dJ7_isLatin1_17 (by decide) ?_
      exact tq_ireturn dJ7_isLatin1_18 (by decide) rfl
    · refine tq_iconst (v := 1) dJ7_isLatin1_13 (by decide) ?_
      refine tq_goto dJ7_isLatin1_14 rfl ?_
      exact tq_ireturn dJ7_isLatin1_18 (by decide) rfl
theorem wfy_J7_checkIndex {G : ai_G} {d : Nat} {h0 : ai_H} (hO : hOld G h0) (s : yS) (v0 : Int32) (v1 : Int32) : ∀ r, fy_J7_checkIndex G s v0 v1 = some r → (Pu (yH s h0)) r (ai_call G (d + 2) 37 [.int v0, .int v1] (yH s h0)) := by
  refine tq_meth (P := (Pu (yH s h0))) (d := (d + 1)) (Nat.le_of_ble_eq_true rfl) ?_
  show Tj G (d + 1) 37 (Pu (yH s h0)) (fy_J7_checkIndex G s v0 v1) 0 [some (.int v0), some (.int v1)] [] (yH s h0)
  unfold fy_J7_checkIndex
  refine tq_iload_n dJ7_checkIndex_0 rfl ?_
  refine tq_iload_n dJ7_checkIndex_1 rfl ?_
  refine ty_gets (k9 := 52) dJ7_checkIndex_2 rfl (fun x2 => ?_)
  refine ty_s3_pi dJ7_checkIndex_5 rfl rfl rfl (Nat.le_of_ble_eq_true rfl) (wfy_J6_checkIndex (d := d) _ _ (some x2)) (fun p5 => ?_)
  refine tq_pop dJ7_checkIndex_8 rfl ?_
  exact tq_return dJ7_checkIndex_9 rfl rfl
theorem wfy_J8_charAt {G : ai_G} {d : Nat} {h0 : ai_H} (hO : hOld G h0) (s : yS) (v0 : Nat) (v1 : Int32) : ∀ r, fy_J8_charAt G s v0 v1 = some r → (Pi (yH s h0)) r (ai_call G (d + 3) 38 [.ref v0, .int v1] (yH s h0)) := by
  refine tq_meth (P := (Pi (yH s h0))) (d := (d + 2)) (Nat.le_of_ble_eq_true rfl) ?_
  show Tj G (d + 2) 38 (Pi (yH s h0)) (fy_J8_charAt G s v0 v1) 0 [some (.ref v0), some (.int v1)] [] (yH s h0)
  unfold fy_J8_charAt
  refine tq_iload_n dJ8_charAt_0 rfl ?_
  refine tq_aload_n dJ8_charAt_1 rfl ?_
  refine ty_alen hO dJ8_charAt_2 (fun x2 => ?_)
  refine ty_s2_u dJ8_charAt_3 rfl rfl rfl (Nat.le_of_ble_eq_true rfl) (wfy_J7_checkIndex hO (d := d) _ _ _) (fun p3 => ?_)
  refine tq_aload_n dJ8_charAt_6 rfl ?_
  refine tq_iload_n dJ8_charAt_7 rfl ?_
  refine ty_bald hO dJ8_charAt_8 (fun x8 => ?_)
  refine tq_sipush (v := 255) dJ8_charAt_9 (by decide) ?_
  refine tq_iand dJ8_charAt_12 ?_
  refine tq_i2c dJ8_charAt_13 ?_
  exact tq_iretG dJ8_charAt_14 rfl rfl rfl
theorem wfy_J7_charAt {G : ai_G} {d : Nat} {h0 : ai_H} (hO : hOld G h0) (s : yS) (v0 : Nat) (v1 : Int32) : ∀ r, fy_J7_charAt G s v0 v1 = some r → (Pi (yH s h0)) r (ai_call G (d + 4) 39 [.ref v0, .int v1] (yH s h0)) := by
  refine tq_meth (P := (Pi (yH s h0))) (d := (d + 3)) (Nat.le_of_ble_eq_true rfl) ?_
  show Tj G (d + 3) 39 (Pi (yH s h0)) (fy_J7_charAt G s v0 v1) 0 [some (.ref v0), some (.int v1)] [] (yH s h0)
  unfold fy_J7_charAt
  refine tq_aload_n dJ7_charAt_0 rfl ?_
  refine ty_o0_i hO dJ7_charAt_1 rfl rfl rfl (Nat.le_of_ble_eq_true rfl) (wfy_J7_isLatin1 hO (d := d + 2) _ _) (fun p1 => ?_)
  refine tq_if_eq dJ7_charAt_4 rfl ?_ ?_
  · exact tq_none
  · refine tq_aload_n dJ7_charAt_7 rfl ?_
    refine ty_gOR hO dJ7_charAt_8 rfl (fun x8 => ?_)
    refine tq_iload_n dJ7_charAt_11 rfl ?_
    refine ty_s2_i dJ7_charAt_12 rfl rfl rfl (Nat.le_of_ble_eq_true rfl) (wfy_J8_charAt hO (d := d) _ _ _) (fun p12 => ?_)
    exact tq_iretG dJ7_charAt_15 rfl rfl rfl
abbrev Pfy_Reader_isWord_b28 (G : ai_G) (d : Nat) (h0 : ai_H) (s : yS) (v0 : Nat) (v1 : Nat) : Int32 ⊕ Int32 → Option ai_R → Prop := Sum.elim (fun (q : Int32) run => ∃ J : Unit, run = ai_run G (d + 4) 40 28 [some (.ref v0), some (.ref v1), some (.int q)] [] (yH s h0)) (fun (q : Int32) run => ∃ J : JV, run = ai_run G (d + 4) 40 60 [J.1, some (.ref v1), some (.int q)] [] (yH s h0))
theorem Bfy_Reader_isWord_b28 {G : ai_G} {d : Nat} {h0 : ai_H} (hO : hOld G h0) (s : yS) (v0 : Nat) (v1 : Nat) (b0 : Int32) (J : Unit) : Tj G (d + 4) 40 (Pfy_Reader_isWord_b28 G d h0 s v0 v1) (some (.inl b0)) 28 [some (.ref v0), some (.ref v1), some (.int b0)] [] (yH s h0) := tq_back J rfl rfl
theorem Efy_Reader_isWord_b28 {G : ai_G} {d : Nat} {h0 : ai_H} (hO : hOld G h0) (s : yS) (v0 : Nat) (v1 : Nat) (b0 : Int32) (J : JV) : Tj G (d + 4) 40 (Pfy_Reader_isWord_b28 G d h0 s v0 v1) (some (.inr b0)) 60 [J.1, some (.ref v1), some (.int b0)] [] (yH s h0) := tq_exit J rfl rfl
theorem wfy_Reader_isWord_b28 {G : ai_G} {d : Nat} {h0 : ai_H} (hO : hOld G h0) (s : yS) (v0 : Nat) (v1 : Nat) (q : Int32) (J : Unit) : Tj G (d + 4) 40 (Pfy_Reader_isWord_b28 G d h0 s v0 v1) (fy_Reader_isWord_b28 G s v0 v1 q) 28 [some (.ref v0), some (.ref v1), some (.int q)] [] (yH s h0) := by
  unfold fy_Reader_isWord_b28
  refine tq_iload_n dX9_isWord_28 rfl ?_
  refine tq_aload_n dX9_isWord_29 rfl ?_
  refine ty_o0_i hO dX9_isWord_30 rfl rfl rfl (Nat.le_of_ble_eq_true rfl) (wfy_J7_length hO (d := d + 2) _ _) (fun p30 => ?_)
  refine tq_icmp_ge dX9_isWord_33 rfl ?_ ?_
  · exact Efy_Reader_isWord_b28 hO _ _ _ _ ⟨some (.ref v0), rfl⟩
  · refine tq_aload_n dX9_isWord_36 rfl ?_
    refine tq_aload_n dX9_isWord_37 rfl ?_
    refine ty_gI dX9_isWord_38 rfl rfl (fun x38 => ?_)
    refine tq_iload_n dX9_isWord_41 rfl ?_
    refine tq_iadd dX9_isWord_42 ?_
    refine ty_v1_i dX9_isWord_43 rfl rfl rfl (Nat.le_of_ble_eq_true rfl) (wfy_Reader_sign hO (d := d + 3) _ _ _) (fun p43 => ?_)
    refine tq_aload_n dX9_isWord_46 rfl ?_
    refine tq_iload_n dX9_isWord_47 rfl ?_
    refine ty_o1_i hO dX9_isWord_48 rfl rfl rfl (Nat.le_of_ble_eq_true rfl) (wfy_J7_charAt hO (d := d) _ _ _) (fun p48 => ?_)
    refine tq_icmp_ne dX9_isWord_51 rfl ?_ ?_
    · exact Efy_Reader_isWord_b28 hO _ _ _ _ ⟨some (.ref v0), rfl⟩
    · refine tq_iinc (v := (q + 1)) (L' := [_, _, _]) dX9_isWord_54 rfl (Nat.le_of_ble_eq_true rfl) rfl rfl ?_
      refine tq_goto dX9_isWord_57 rfl ?_
      exact Bfy_Reader_isWord_b28 hO _ _ _ _ ()
theorem Sfy_Reader_isWord_b28 {G : ai_G} {d : Nat} {h0 : ai_H} (hO : hOld G h0) {α : Type} {P : α → Option ai_R → Prop} (s : yS) (v0 : Nat) (v1 : Nat) (b0 : Int32) (J : Unit) {r : Int32 → Option α} (kk : ∀ (q : Int32) (J : JV), Tj G (d + 4) 40 P (r q) 60 [J.1, some (.ref v1), some (.int q)] [] (yH s h0)) : Tj G (d + 4) 40 P ((lp (fy_Reader_isWord_b28 G s v0 v1) b0).bind r) 28 [some (.ref v0), some (.ref v1), some (.int b0)] [] (yH s h0) := tq_lp1 (J := J) (fun q J => wfy_Reader_isWord_b28 hO s v0 v1 q J) rfl rfl kk
theorem wfy_Reader_isWord_j60 {G : ai_G} {d : Nat} {h0 : ai_H} (hO : hOld G h0) (j0 : JV)   (s : yS) (v1 : Nat) (v2 : Int32): Tj G (d + 4) 40 (Pi (yH s h0)) (fy_Reader_isWord_j60 G s v1 v2) 60 [j0.1, some (.ref v1), some (.int v2)] [] (yH s h0) := by
  unfold fy_Reader_isWord_j60
  refine tq_iload_n dX9_isWord_60 rfl ?_
  refine tq_aload_n dX9_isWord_61 rfl ?_
  refine ty_o0_i hO dX9_isWord_62 rfl rfl rfl (Nat.le_of_ble_eq_true rfl) (wfy_J7_length hO (d := d + 2) _ _) (fun p62 => ?_)
  refine tq_icmp_ne dX9_isWord_65 rfl ?_ ?_
  · refine tq_iconst (v := 0) dX9_isWord_72 (by decide) ?_
    exact tq_ireturn dX9_isWord_73 (by decide) rfl
  · refine tq_iconst (v := 1) dX9_isWord_68 (by decide) ?_
    refine tq_goto dX9_isWord_69 rfl ?_
    exact tq_ireturn dX9_isWord_73 (by decide) rfl
theorem wfy_Reader_isWord {G : ai_G} {d : Nat} {h0 : ai_H} (hO : hOld G h0) (s : yS) (v0 : Nat) (v1 : Nat) : ∀ r, fy_Reader_isWord G s v0 v1 = some r → (Pi (yH s h0)) r (ai_call G (d + 5) 40 [.ref v0, .ref v1] (yH s h0)) := by
  refine tq_meth (P := (Pi (yH s h0))) (d := (d + 4)) (Nat.le_of_ble_eq_true rfl) ?_
  show Tj G (d + 4) 40 (Pi (yH s h0)) (fy_Reader_isWord G s v0 v1) 0 [some (.ref v0), some (.ref v1), none] [] (yH s h0)
  unfold fy_Reader_isWord
  refine tq_aload_n dX9_isWord_0 rfl ?_
  refine ty_gI dX9_isWord_1 rfl rfl (fun x1 => ?_)
  refine tq_iconst (v := 1) dX9_isWord_4 (by decide) ?_
  refine tq_icmp_ne dX9_isWord_5 rfl ?_ ?_
  · refine tq_iconst (v := 0) dX9_isWord_24 (by decide) ?_
    exact tq_ireturn dX9_isWord_25 (by decide) rfl
  · refine tq_aload_n dX9_isWord_8 rfl ?_
    refine ty_gI dX9_isWord_9 rfl rfl (fun x9 => ?_)
    refine tq_aload_n dX9_isWord_12 rfl ?_
    refine ty_gI dX9_isWord_13 rfl rfl (fun x13 => ?_)
    refine tq_isub dX9_isWord_16 ?_
    refine tq_aload_n dX9_isWord_17 rfl ?_
    refine ty_o0_i hO dX9_isWord_18 rfl rfl rfl (Nat.le_of_ble_eq_true rfl) (wfy_J7_length hO (d := d + 2) _ _) (fun p18 => ?_)
    refine tq_icmp_eq dX9_isWord_21 rfl ?_ ?_
    · refine tq_iconst (v := 0) dX9_isWord_26 (by decide) ?_
      refine tq_istore_n (L' := [_, _, _]) dX9_isWord_27 (Nat.le_of_ble_eq_true rfl) rfl ?_
      refine Sfy_Reader_isWord_b28 hO _ _ _ _ () (fun q28 J28 => ?_)
      exact wfy_Reader_isWord_j60 hO J28 _ _ _
    · refine tq_iconst (v := 0) dX9_isWord_24 (by decide) ?_
      exact tq_ireturn dX9_isWord_25 (by decide) rfl
theorem wfy_Reader_canLine {G : ai_G} {d : Nat} {h0 : ai_H} (hO : hOld G h0) (s : yS) (v0 : Nat) : ∀ r, fy_Reader_canLine G s v0 = some r → (Pi (yH s h0)) r (ai_call G (d + 6) 41 [.ref v0] (yH s h0)) := by
  refine tq_meth (P := (Pi (yH s h0))) (d := (d + 5)) (Nat.le_of_ble_eq_true rfl) ?_
  show Tj G (d + 5) 41 (Pi (yH s h0)) (fy_Reader_canLine G s v0) 0 [some (.ref v0)] [] (yH s h0)
  unfold fy_Reader_canLine
  refine tq_aload_n dX9_canLine_0 rfl ?_
  refine ty_ldc_w (k9 := 0) dX9_canLine_1 rfl rfl (fun x1 => ?_)
  refine ty_v1_i dX9_canLine_4 rfl rfl rfl (Nat.le_of_ble_eq_true rfl) (wfy_Reader_isWord hO (d := d) _ _ _) (fun p4 => ?_)
  refine tq_if_eq dX9_canLine_7 rfl ?_ ?_
  · refine tq_aload_n dX9_canLine_26 rfl ?_
    refine ty_ldc_w (k9 := 1) dX9_canLine_27 rfl rfl (fun x27 => ?_)
    refine ty_v1_i dX9_canLine_30 rfl rfl rfl (Nat.le_of_ble_eq_true rfl) (wfy_Reader_isWord hO (d := d) _ _ _) (fun p30 => ?_)
    refine tq_if_eq dX9_canLine_33 rfl ?_ ?_
    · refine tq_aload_n dX9_canLine_54 rfl ?_
      refine ty_ldc_w (k9 := 2) dX9_canLine_55 rfl rfl (fun x55 => ?_)
      refine ty_v1_i dX9_canLine_58 rfl rfl rfl (Nat.le_of_ble_eq_true rfl) (wfy_Reader_isWord hO (d := d) _ _ _) (fun p58 => ?_)
      refine tq_if_eq dX9_canLine_61 rfl ?_ ?_
      · refine tq_aload_n dX9_canLine_82 rfl ?_
        refine ty_ldc_w (k9 := 3) dX9_canLine_83 rfl rfl (fun x83 => ?_)
        refine ty_v1_i dX9_canLine_86 rfl rfl rfl (Nat.le_of_ble_eq_true rfl) (wfy_Reader_isWord hO (d := d) _ _ _) (fun p86 => ?_)
        refine tq_if_eq dX9_canLine_89 rfl ?_ ?_
        · refine tq_aload_n dX9_canLine_112 rfl ?_
          refine ty_ldc_w (k9 := 4) dX9_canLine_113 rfl rfl (fun x113 => ?_)
          refine ty_v1_i dX9_canLine_116 rfl rfl rfl (Nat.le_of_ble_eq_true rfl) (wfy_Reader_isWord hO (d := d) _ _ _) (fun p116 => ?_)
          refine tq_if_eq dX9_canLine_119 rfl ?_ ?_
          · refine tq_aload_n dX9_canLine_143 rfl ?_
            refine ty_ldc_w (k9 := 5) dX9_canLine_144 rfl rfl (fun x144 => ?_)
            refine ty_v1_i dX9_canLine_147 rfl rfl rfl (Nat.le_of_ble_eq_true rfl) (wfy_Reader_isWord hO (d := d) _ _ _) (fun p147 => ?_)
            refine tq_if_eq dX9_canLine_150 rfl ?_ ?_
            · refine tq_aload_n dX9_canLine_169 rfl ?_
              refine ty_ldc_w (k9 := 6) dX9_canLine_170 rfl rfl (fun x170 => ?_)
              refine ty_v1_i dX9_canLine_173 rfl rfl rfl (Nat.le_of_ble_eq_true rfl) (wfy_Reader_isWord hO (d := d) _ _ _) (fun p173 => ?_)
              refine tq_if_eq dX9_canLine_176 rfl ?_ ?_
              · refine tq_aload_n dX9_canLine_197 rfl ?_
                refine ty_ldc_w (k9 := 7) dX9_canLine_198 rfl rfl (fun x198 => ?_)
                refine ty_v1_i dX9_canLine_201 rfl rfl rfl (Nat.le_of_ble_eq_true rfl) (wfy_Reader_isWord hO (d := d) _ _ _) (fun p201 => ?_)
                refine tq_if_eq dX9_canLine_204 rfl ?_ ?_
                · refine tq_iconst (v := 0) dX9_canLine_221 (by decide) ?_
                  exact tq_ireturn dX9_canLine_222 (by decide) rfl
                · refine tq_aload_n dX9_canLine_207 rfl ?_
                  refine ty_gR dX9_canLine_208 rfl rfl (fun x208 => ?_)
                  refine ty_gI dX9_canLine_211 rfl rfl (fun x211 => ?_)
                  refine tq_if_ne dX9_canLine_214 rfl ?_ ?_
                  · refine tq_iconst (v := 0) dX9_canLine_221 (by decide) ?_
                    exact tq_ireturn dX9_canLine_222 (by decide) rfl
                  · refine tq_iconst (v := 1) dX9_canLine_217 (by decide) ?_
                    refine tq_goto dX9_canLine_218 rfl ?_
                    exact tq_ireturn dX9_canLine_222 (by decide) rfl
              · refine tq_aload_n dX9_canLine_179 rfl ?_
                refine ty_gR dX9_canLine_180 rfl rfl (fun x180 => ?_)
                refine ty_gI dX9_canLine_183 rfl rfl (fun x183 => ?_)
                refine tq_if_ne dX9_canLine_186 rfl ?_ ?_
                · refine tq_iconst (v := 0) dX9_canLine_193 (by decide) ?_
                  refine tq_goto dX9_canLine_194 rfl ?_
                  exact tq_ireturn dX9_canLine_222 (by decide) rfl
                · refine tq_iconst (v := 1) dX9_canLine_189 (by decide) ?_
                  refine tq_goto dX9_canLine_190 rfl ?_
                  exact tq_ireturn dX9_canLine_222 (by decide) rfl
            · refine tq_aload_n dX9_canLine_153 rfl ?_
              refine ty_gR dX9_canLine_154 rfl rfl (fun x154 => ?_)
              refine ty_gN dX9_canLine_157 rfl rfl (fun x157 => ?_)
              refine tq_ifnonnull dX9_canLine_160 rfl ?_ ?_
              · refine tq_iconst (v := 0) dX9_canLine_167 (by decide) ?_
                exact tq_ireturn dX9_canLine_168 (by decide) rfl
              · refine tq_iconst (v := 1) dX9_canLine_163 (by decide) ?_
                refine tq_goto dX9_canLine_164 rfl ?_
                exact tq_ireturn dX9_canLine_168 (by decide) rfl
          · refine tq_aload_n dX9_canLine_122 rfl ?_
            refine ty_gR dX9_canLine_123 rfl rfl (fun x123 => ?_)
            refine ty_gR dX9_canLine_126 rfl rfl (fun x126 => ?_)
            refine ty_v0_i dX9_canLine_129 rfl rfl rfl (Nat.le_of_ble_eq_true rfl) (wfy_List_size hO (d := d + 4) _ _) (fun p129 => ?_)
            refine tq_bipush (v := 7) dX9_canLine_132 (by decide) ?_
            refine tq_icmp_ge dX9_canLine_134 rfl ?_ ?_
            · refine tq_iconst (v := 0) dX9_canLine_141 (by decide) ?_
              exact tq_ireturn dX9_canLine_142 (by decide) rfl
            · refine tq_iconst (v := 1) dX9_canLine_137 (by decide) ?_
              refine tq_goto dX9_canLine_138 rfl ?_
              exact tq_ireturn dX9_canLine_142 (by decide) rfl
        · refine tq_aload_n dX9_canLine_92 rfl ?_
          refine ty_gR dX9_canLine_93 rfl rfl (fun x93 => ?_)
          refine ty_gR dX9_canLine_96 rfl rfl (fun x96 => ?_)
          refine ty_v0_i dX9_canLine_99 rfl rfl rfl (Nat.le_of_ble_eq_true rfl) (wfy_List_size hO (d := d + 4) _ _) (fun p99 => ?_)
          refine tq_iconst (v := 4) dX9_canLine_102 (by decide) ?_
          refine tq_icmp_ge dX9_canLine_103 rfl ?_ ?_
          · refine tq_iconst (v := 0) dX9_canLine_110 (by decide) ?_
            exact tq_ireturn dX9_canLine_111 (by decide) rfl
          · refine tq_iconst (v := 1) dX9_canLine_106 (by decide) ?_
            refine tq_goto dX9_canLine_107 rfl ?_
            exact tq_ireturn dX9_canLine_111 (by decide) rfl
      · refine tq_aload_n dX9_canLine_64 rfl ?_
        refine ty_gR dX9_canLine_65 rfl rfl (fun x65 => ?_)
        refine ty_gI dX9_canLine_68 rfl rfl (fun x68 => ?_)
        refine tq_bipush (v := 6) dX9_canLine_71 (by decide) ?_
        refine tq_icmp_ge dX9_canLine_73 rfl ?_ ?_
        · refine tq_iconst (v := 0) dX9_canLine_80 (by decide) ?_
          exact tq_ireturn dX9_canLine_81 (by decide) rfl
        · refine tq_iconst (v := 1) dX9_canLine_76 (by decide) ?_
          refine tq_goto dX9_canLine_77 rfl ?_
          exact tq_ireturn dX9_canLine_81 (by decide) rfl
    · refine tq_aload_n dX9_canLine_36 rfl ?_
      refine ty_gR dX9_canLine_37 rfl rfl (fun x37 => ?_)
      refine ty_gI dX9_canLine_40 rfl rfl (fun x40 => ?_)
      refine tq_bipush (v := 16) dX9_canLine_43 (by decide) ?_
      refine tq_icmp_ge dX9_canLine_45 rfl ?_ ?_
      · refine tq_iconst (v := 0) dX9_canLine_52 (by decide) ?_
        exact tq_ireturn dX9_canLine_53 (by decide) rfl
      · refine tq_iconst (v := 1) dX9_canLine_48 (by decide) ?_
        refine tq_goto dX9_canLine_49 rfl ?_
        exact tq_ireturn dX9_canLine_53 (by decide) rfl
  · refine tq_aload_n dX9_canLine_10 rfl ?_
    refine ty_gR dX9_canLine_11 rfl rfl (fun x11 => ?_)
    refine ty_gI dX9_canLine_14 rfl rfl (fun x14 => ?_)
    refine tq_if_ne dX9_canLine_17 rfl ?_ ?_
    · refine tq_iconst (v := 0) dX9_canLine_24 (by decide) ?_
      exact tq_ireturn dX9_canLine_25 (by decide) rfl
    · refine tq_iconst (v := 1) dX9_canLine_20 (by decide) ?_
      refine tq_goto dX9_canLine_21 rfl ?_
      exact tq_ireturn dX9_canLine_25 (by decide) rfl
theorem wfy_Wrong_by {G : ai_G} {d : Nat} {h0 : ai_H} (hO : hOld G h0) (s : yS) (v0 : Nat) (v1 : Int32) (v2 : Int32) : ∀ r, fy_Wrong_by G s v0 v1 v2 = some r → (PyR h0) r (ai_call G (d + 1) 42 [.ref v0, .int v1, .int v2] (yH s h0)) := by
  refine tq_meth (P := (PyR h0)) (d := d) (Nat.le_of_ble_eq_true rfl) ?_
  show Tj G d 42 (PyR h0) (fy_Wrong_by G s v0 v1 v2) 0 [some (.ref v0), some (.int v1), some (.int v2)] [] (yH s h0)
  unfold fy_Wrong_by
  refine tq_aload_n dX3_by_0 rfl ?_
  refine tq_iload_n dX3_by_1 rfl ?_
  refine ty_wI dX3_by_2 rfl rfl rfl (fun s2 => ?_)
  refine tq_aload_n dX3_by_5 rfl ?_
  refine tq_iload_n dX3_by_6 rfl ?_
  refine ty_wI dX3_by_7 rfl rfl rfl (fun s7 => ?_)
  refine tq_aload_n dX3_by_10 rfl ?_
  exact tq_areturn dX3_by_11 rfl rfl rfl
theorem wfy_Reader_wrong {G : ai_G} {d : Nat} {h0 : ai_H} (hO : hOld G h0) (s : yS) (v0 : Nat) : ∀ r, fy_Reader_wrong G s v0 = some r → (PyR h0) r (ai_call G (d + 2) 43 [.ref v0] (yH s h0)) := by
  refine tq_meth (P := (PyR h0)) (d := (d + 1)) (Nat.le_of_ble_eq_true rfl) ?_
  show Tj G (d + 1) 43 (PyR h0) (fy_Reader_wrong G s v0) 0 [some (.ref v0)] [] (yH s h0)
  unfold fy_Reader_wrong
  refine tq_aload_n dX9_wrong_0 rfl ?_
  refine ty_gR dX9_wrong_1 rfl rfl (fun x1 => ?_)
  refine tq_aload_n dX9_wrong_4 rfl ?_
  refine ty_gI dX9_wrong_5 rfl rfl (fun x5 => ?_)
  refine tq_iconst (v := 4) dX9_wrong_8 (by decide) ?_
  refine tq_icmp_ne dX9_wrong_9 rfl ?_ ?_
  · refine tq_iconst (v := 2) dX9_wrong_16 (by decide) ?_
    refine tq_aload_n dX9_wrong_17 rfl ?_
    refine ty_gI dX9_wrong_18 rfl rfl (fun x18 => ?_)
    refine ty_v2_R dX9_wrong_21 rfl rfl rfl (Nat.le_of_ble_eq_true rfl) (wfy_Wrong_by hO (d := d) _ _ _ _) (fun p21 => ?_)
    exact tq_areturn dX9_wrong_24 rfl rfl rfl
  · refine tq_iconst (v := 1) dX9_wrong_12 (by decide) ?_
    refine tq_goto dX9_wrong_13 rfl ?_
    refine tq_aload_n dX9_wrong_17 rfl ?_
    refine ty_gI dX9_wrong_18 rfl rfl (fun x18 => ?_)
    refine ty_v2_R dX9_wrong_21 rfl rfl rfl (Nat.le_of_ble_eq_true rfl) (wfy_Wrong_by hO (d := d) _ _ _ _) (fun p21 => ?_)
    exact tq_areturn dX9_wrong_24 rfl rfl rfl
theorem wfy_Reader_comes {G : ai_G} {d : Nat} {h0 : ai_H} (hO : hOld G h0) (s : yS) (v0 : Nat) (v1 : Nat) : ∀ r, fy_Reader_comes G s v0 v1 = some r → (PyI h0) r (ai_call G (d + 6) 44 [.ref v0, .ref v1] (yH s h0)) := by
  refine tq_meth (P := (PyI h0)) (d := (d + 5)) (Nat.le_of_ble_eq_true rfl) ?_
  show Tj G (d + 5) 44 (PyI h0) (fy_Reader_comes G s v0 v1) 0 [some (.ref v0), some (.ref v1), none] [] (yH s h0)
  unfold fy_Reader_comes
  refine tq_aload_n dX9_comes_0 rfl ?_
  refine tq_aload_n dX9_comes_1 rfl ?_
  refine ty_v1_i dX9_comes_2 rfl rfl rfl (Nat.le_of_ble_eq_true rfl) (wfy_Reader_isWord hO (d := d) _ _ _) (fun p2 => ?_)
  refine tq_istore_n (L' := [_, _, _]) dX9_comes_5 (Nat.le_of_ble_eq_true rfl) rfl ?_
  refine tq_iload_n dX9_comes_6 rfl ?_
  refine tq_if_eq dX9_comes_7 rfl ?_ ?_
  · refine tq_iload_n dX9_comes_14 rfl ?_
    exact tq_iretB dX9_comes_15 rfl rfl rfl
  · refine tq_aload_n dX9_comes_10 rfl ?_
    refine ty_v0_V dX9_comes_11 rfl rfl rfl (Nat.le_of_ble_eq_true rfl) (wfy_Reader_next hO (d := d + 2) _ _) (fun p11 => ?_)
    refine tq_iload_n dX9_comes_14 rfl ?_
    exact tq_iretB dX9_comes_15 rfl rfl rfl
theorem wfy_Reader_number {G : ai_G} {d : Nat} {h0 : ai_H} (hO : hOld G h0) (s : yS) (v0 : Nat) (v1 : Int32) (v2 : Int32) : ∀ r, fy_Reader_number G s v0 v1 v2 = some r → (PtI h0) r (ai_call G (d + 4) 45 [.ref v0, .int v1, .int v2] (yH s h0)) := by
  refine tq_meth (P := (PtI h0)) (d := (d + 3)) (Nat.le_of_ble_eq_true rfl) ?_
  show Tj G (d + 3) 45 (PtI h0) (fy_Reader_number G s v0 v1 v2) 0 [some (.ref v0), some (.int v1), some (.int v2), none] [] (yH s h0)
  unfold fy_Reader_number
  refine tq_aload_n dX9_number_0 rfl ?_
  refine ty_gI dX9_number_1 rfl rfl (fun x1 => ?_)
  refine tq_iconst (v := 2) dX9_number_4 (by decide) ?_
  refine tq_icmp_eq dX9_number_5 rfl ?_ ?_
  · refine tq_aload_n dX9_number_13 rfl ?_
    refine ty_gI dX9_number_14 rfl rfl (fun x14 => ?_)
    refine tq_iload_n dX9_number_17 rfl ?_
    refine tq_icmp_lt dX9_number_18 rfl ?_ ?_
    · refine tq_aload_n dX9_number_29 rfl ?_
      refine ty_gR dX9_number_30 rfl rfl (fun x30 => ?_)
      refine tq_iconst (v := 4) dX9_number_33 (by decide) ?_
      refine tq_aload_n dX9_number_34 rfl ?_
      refine ty_gI dX9_number_35 rfl rfl (fun x35 => ?_)
      refine ty_v2_R dX9_number_38 rfl rfl rfl (Nat.le_of_ble_eq_true rfl) (wfy_Wrong_by hO (d := d + 2) _ _ _ _) (fun p38 => ?_)
      exact tq_athrow dX9_number_41 rfl (by decide +kernel) (fun _ a ha => by cases ha; rfl)
    · refine tq_aload_n dX9_number_21 rfl ?_
      refine ty_gI dX9_number_22 rfl rfl (fun x22 => ?_)
      refine tq_iload_n dX9_number_25 rfl ?_
      refine tq_icmp_le dX9_number_26 rfl ?_ ?_
      · refine tq_aload_n dX9_number_42 rfl ?_
        refine ty_gI dX9_number_43 rfl rfl (fun x43 => ?_)
        refine tq_istore_n (L' := [_, _, _, _]) dX9_number_46 (Nat.le_of_ble_eq_true rfl) rfl ?_
        refine tq_aload_n dX9_number_47 rfl ?_
        refine ty_v0_V dX9_number_48 rfl rfl rfl (Nat.le_of_ble_eq_true rfl) (wfy_Reader_next hO (d := d) _ _) (fun p48 => ?_)
        refine tq_iload_n dX9_number_51 rfl ?_
        exact tq_ireturn dX9_number_52 rfl rfl
      · refine tq_aload_n dX9_number_29 rfl ?_
        refine ty_gR dX9_number_30 rfl rfl (fun x30 => ?_)
        refine tq_iconst (v := 4) dX9_number_33 (by decide) ?_
        refine tq_aload_n dX9_number_34 rfl ?_
        refine ty_gI dX9_number_35 rfl rfl (fun x35 => ?_)
        refine ty_v2_R dX9_number_38 rfl rfl rfl (Nat.le_of_ble_eq_true rfl) (wfy_Wrong_by hO (d := d + 2) _ _ _ _) (fun p38 => ?_)
        exact tq_athrow dX9_number_41 rfl (by decide +kernel) (fun _ a ha => by cases ha; rfl)
  · refine tq_aload_n dX9_number_8 rfl ?_
    refine ty_v0_R dX9_number_9 rfl rfl rfl (Nat.le_of_ble_eq_true rfl) (wfy_Reader_wrong hO (d := d + 1) _ _) (fun p9 => ?_)
    exact tq_athrow dX9_number_12 rfl (by decide +kernel) (fun _ a ha => by cases ha; rfl)
theorem wfy_Reader_must {G : ai_G} {d : Nat} {h0 : ai_H} (hO : hOld G h0) (s : yS) (v0 : Nat) (v1 : Int32) : ∀ r, fy_Reader_must G s v0 v1 = some r → (PtV h0) r (ai_call G (d + 4) 46 [.ref v0, .int v1] (yH s h0)) := by
  refine tq_meth (P := (PtV h0)) (d := (d + 3)) (Nat.le_of_ble_eq_true rfl) ?_
  show Tj G (d + 3) 46 (PtV h0) (fy_Reader_must G s v0 v1) 0 [some (.ref v0), some (.int v1)] [] (yH s h0)
  unfold fy_Reader_must
  refine tq_iload_n dX9_must_0 rfl ?_
  refine tq_if_ne dX9_must_1 rfl ?_ ?_
  · refine tq_aload_n dX9_must_9 rfl ?_
    refine ty_v0_V dX9_must_10 rfl rfl rfl (Nat.le_of_ble_eq_true rfl) (wfy_Reader_next hO (d := d) _ _) (fun p10 => ?_)
    exact tq_return dX9_must_13 rfl rfl
  · refine tq_aload_n dX9_must_4 rfl ?_
    refine ty_v0_R dX9_must_5 rfl rfl rfl (Nat.le_of_ble_eq_true rfl) (wfy_Reader_wrong hO (d := d + 1) _ _) (fun p5 => ?_)
    exact tq_athrow dX9_must_8 rfl (by decide +kernel) (fun _ a ha => by cases ha; rfl)
theorem wfy_Reader_after {G : ai_G} {d : Nat} {h0 : ai_H} (hO : hOld G h0) (s : yS) (v0 : Nat) (v1 : Nat) (v2 : Int32) (v3 : Int32) : ∀ r, fy_Reader_after G s v0 v1 v2 v3 = some r → (PtI h0) r (ai_call G (d + 6) 47 [.ref v0, .ref v1, .int v2, .int v3] (yH s h0)) := by
  refine tq_meth (P := (PtI h0)) (d := (d + 5)) (Nat.le_of_ble_eq_true rfl) ?_
  show Tj G (d + 5) 47 (PtI h0) (fy_Reader_after G s v0 v1 v2 v3) 0 [some (.ref v0), some (.ref v1), some (.int v2), some (.int v3)] [] (yH s h0)
  unfold fy_Reader_after
  refine tq_aload_n dX9_after_0 rfl ?_
  refine tq_aload_n dX9_after_1 rfl ?_
  refine tq_aload_n dX9_after_2 rfl ?_
  refine ty_v1_i dX9_after_3 rfl rfl rfl (Nat.le_of_ble_eq_true rfl) (wfy_Reader_isWord hO (d := d) _ _ _) (fun p3 => ?_)
  refine ty_v1_tV dX9_after_6 rfl rfl rfl (Nat.le_of_ble_eq_true rfl) (by decide +kernel) rfl (wfy_Reader_must hO (d := d + 1) _ _ _) (fun _ _ a ha => by cases ha; rfl) (fun _ p6 => ?_)
  refine tq_aload_n dX9_after_9 rfl ?_
  refine tq_iload_n dX9_after_10 rfl ?_
  refine tq_iload_n dX9_after_11 rfl ?_
  refine ty_v2_tI dX9_after_12 rfl rfl rfl (Nat.le_of_ble_eq_true rfl) (by decide +kernel) rfl (wfy_Reader_number hO (d := d + 1) _ _ _ _) (fun _ _ a ha => by cases ha; rfl) (fun v12 p12 => ?_)
  exact tq_ireturn dX9_after_15 rfl rfl
theorem wfy_River_cell {G : ai_G} {d : Nat} {h0 : ai_H} (hO : hOld G h0) (s : yS) (v0 : Nat) (v1 : Int32) (v2 : Int32) : ∀ r, fy_River_cell G s v0 v1 v2 = some r → (Pi (yH s h0)) r (ai_call G (d + 1) 48 [.ref v0, .int v1, .int v2] (yH s h0)) := by
  refine tq_meth (P := (Pi (yH s h0))) (d := d) (Nat.le_of_ble_eq_true rfl) ?_
  show Tj G d 48 (Pi (yH s h0)) (fy_River_cell G s v0 v1 v2) 0 [some (.ref v0), some (.int v1), some (.int v2)] [] (yH s h0)
  unfold fy_River_cell
  refine tq_bipush (v := 8) dX1_cell_0 (by decide) ?_
  refine tq_iload_n dX1_cell_2 rfl ?_
  refine tq_imul dX1_cell_3 ?_
  refine tq_iload_n dX1_cell_4 rfl ?_
  refine tq_iadd dX1_cell_5 ?_
  exact tq_ireturn dX1_cell_6 rfl rfl
theorem wfy_Reader_cell {G : ai_G} {d : Nat} {h0 : ai_H} (hO : hOld G h0) (s : yS) (v0 : Nat) (v1 : Int32) (v2 : Int32) (v3 : Nat) : ∀ r, fy_Reader_cell G s v0 v1 v2 v3 = some r → (PtI h0) r (ai_call G (d + 5) 49 [.ref v0, .int v1, .int v2, .ref v3] (yH s h0)) := by
  refine tq_meth (P := (PtI h0)) (d := (d + 4)) (Nat.le_of_ble_eq_true rfl) ?_
  show Tj G (d + 4) 49 (PtI h0) (fy_Reader_cell G s v0 v1 v2 v3) 0 [some (.ref v0), some (.int v1), some (.int v2), some (.ref v3), none, none, none] [] (yH s h0)
  unfold fy_Reader_cell
  refine tq_aload_n dX9_cell_0 rfl ?_
  refine tq_iconst (v := 0) dX9_cell_1 (by decide) ?_
  refine tq_aload_n dX9_cell_2 rfl ?_
  refine ty_gR dX9_cell_3 rfl rfl (fun x3 => ?_)
  refine ty_gI dX9_cell_6 rfl rfl (fun x6 => ?_)
  refine tq_iconst (v := 1) dX9_cell_9 (by decide) ?_
  refine tq_isub dX9_cell_10 ?_
  refine ty_v2_tI dX9_cell_11 rfl rfl rfl (Nat.le_of_ble_eq_true rfl) (by decide +kernel) rfl (wfy_Reader_number hO (d := d) _ _ _ _) (fun _ _ a ha => by cases ha; rfl) (fun v11 p11 => ?_)
  refine tq_istore (L' := [_, _, _, _, _, _, _]) dX9_cell_14 (Nat.le_of_ble_eq_true rfl) rfl ?_
  refine tq_aload_n dX9_cell_16 rfl ?_
  refine ty_gI dX9_cell_17 rfl rfl (fun x17 => ?_)
  refine tq_istore (L' := [_, _, _, _, _, _, _]) dX9_cell_20 (Nat.le_of_ble_eq_true rfl) rfl ?_
  refine tq_aload_n dX9_cell_22 rfl ?_
  refine ty_gR dX9_cell_23 rfl rfl (fun x23 => ?_)
  refine tq_iload dX9_cell_26 rfl ?_
  refine tq_aload_n dX9_cell_28 rfl ?_
  refine tq_iload_n dX9_cell_29 rfl ?_
  refine tq_iload_n dX9_cell_30 rfl ?_
  refine ty_v2_tI dX9_cell_31 rfl rfl rfl (Nat.le_of_ble_eq_true rfl) (by decide +kernel) rfl (wfy_Reader_number hO (d := d) _ _ _ _) (fun _ _ a ha => by cases ha; rfl) (fun v31 p31 => ?_)
  refine ty_v2_i dX9_cell_34 rfl rfl rfl (Nat.le_of_ble_eq_true rfl) (wfy_River_cell hO (d := d + 3) _ _ _ _) (fun p34 => ?_)
  refine tq_istore (L' := [_, _, _, _, _, _, _]) dX9_cell_37 (Nat.le_of_ble_eq_true rfl) rfl ?_
  refine tq_aload_n dX9_cell_39 rfl ?_
  refine tq_iload dX9_cell_40 rfl ?_
  refine ty_bald hO dX9_cell_42 (fun x42 => ?_)
  refine tq_if_eq dX9_cell_43 rfl ?_ ?_
  · refine tq_aload_n dX9_cell_57 rfl ?_
    refine tq_iload dX9_cell_58 rfl ?_
    refine tq_iconst (v := 1) dX9_cell_60 (by decide) ?_
    refine ty_bast dX9_cell_61 (fun s61 => ?_)
    refine tq_iload dX9_cell_62 rfl ?_
    exact tq_ireturn dX9_cell_64 rfl rfl
  · refine tq_aload_n dX9_cell_46 rfl ?_
    refine ty_gR dX9_cell_47 rfl rfl (fun x47 => ?_)
    refine tq_iconst (v := 3) dX9_cell_50 (by decide) ?_
    refine tq_iload dX9_cell_51 rfl ?_
    refine ty_v2_R dX9_cell_53 rfl rfl rfl (Nat.le_of_ble_eq_true rfl) (wfy_Wrong_by hO (d := d + 3) _ _ _ _) (fun p53 => ?_)
    exact tq_athrow dX9_cell_56 rfl (by decide +kernel) (fun _ a ha => by cases ha; rfl)
theorem wfy_Reader_current {G : ai_G} {d : Nat} {h0 : ai_H} (hO : hOld G h0) (s : yS) (v0 : Nat) : ∀ r, fy_Reader_current G s v0 = some r → (PtV h0) r (ai_call G (d + 6) 50 [.ref v0] (yH s h0)) := by
  refine tq_meth (P := (PtV h0)) (d := (d + 5)) (Nat.le_of_ble_eq_true rfl) ?_
  show Tj G (d + 5) 50 (PtV h0) (fy_Reader_current G s v0) 0 [some (.ref v0), none] [] (yH s h0)
  unfold fy_Reader_current
  refine tq_aload_n dX9_current_0 rfl ?_
  refine tq_iconst (v := 0) dX9_current_1 (by decide) ?_
  refine tq_bipush (v := 7) dX9_current_2 (by decide) ?_
  refine ty_v2_tI dX9_current_4 rfl rfl rfl (Nat.le_of_ble_eq_true rfl) (by decide +kernel) rfl (wfy_Reader_number hO (d := d + 1) _ _ _ _) (fun _ _ a ha => by cases ha; rfl) (fun v4 p4 => ?_)
  refine tq_istore_n (L' := [_, _]) dX9_current_7 (Nat.le_of_ble_eq_true rfl) rfl ?_
  refine tq_aload_n dX9_current_8 rfl ?_
  refine tq_aload_n dX9_current_9 rfl ?_
  refine ty_ldc (k9 := 9) dX9_current_10 rfl (fun x10 => ?_)
  refine ty_v1_i dX9_current_12 rfl rfl rfl (Nat.le_of_ble_eq_true rfl) (wfy_Reader_isWord hO (d := d) _ _ _) (fun p12 => ?_)
  refine ty_v1_tV dX9_current_15 rfl rfl rfl (Nat.le_of_ble_eq_true rfl) (by decide +kernel) rfl (wfy_Reader_must hO (d := d + 1) _ _ _) (fun _ _ a ha => by cases ha; rfl) (fun _ p15 => ?_)
  refine tq_aload_n dX9_current_18 rfl ?_
  refine ty_gR dX9_current_19 rfl rfl (fun x19 => ?_)
  refine ty_gR dX9_current_22 rfl rfl (fun x22 => ?_)
  refine tq_aload_n dX9_current_25 rfl ?_
  refine tq_iconst (v := 0) dX9_current_26 (by decide) ?_
  refine tq_aload_n dX9_current_27 rfl ?_
  refine ty_gR dX9_current_28 rfl rfl (fun x28 => ?_)
  refine ty_gI dX9_current_31 rfl rfl (fun x31 => ?_)
  refine tq_iconst (v := 1) dX9_current_34 (by decide) ?_
  refine tq_isub dX9_current_35 ?_
  refine tq_aload_n dX9_current_36 rfl ?_
  refine ty_gR dX9_current_37 rfl rfl (fun x37 => ?_)
  refine ty_gR dX9_current_40 rfl rfl (fun x40 => ?_)
  refine ty_v3_tI dX9_current_43 rfl rfl rfl (Nat.le_of_ble_eq_true rfl) (by decide +kernel) rfl (wfy_Reader_cell hO (d := d) _ _ _ _ _) (fun _ _ a ha => by cases ha; rfl) (fun v43 p43 => ?_)
  refine tq_iload_n dX9_current_46 rfl ?_
  refine ty_iast dX9_current_47 (fun s47 => ?_)
  refine tq_aload_n dX9_current_48 rfl ?_
  refine ty_gR dX9_current_49 rfl rfl (fun x49 => ?_)
  refine tq_dup dX9_current_52 rfl ?_
  refine ty_gI dX9_current_53 rfl rfl (fun x53 => ?_)
  refine tq_iconst (v := 1) dX9_current_56 (by decide) ?_
  refine tq_iadd dX9_current_57 ?_
  refine ty_wI dX9_current_58 rfl rfl rfl (fun s58 => ?_)
  exact tq_return dX9_current_61 rfl rfl
theorem wfy_Reader_iron {G : ai_G} {d : Nat} {h0 : ai_H} (hO : hOld G h0) (s : yS) (v0 : Nat) : ∀ r, fy_Reader_iron G s v0 = some r → (PtV h0) r (ai_call G (d + 6) 51 [.ref v0] (yH s h0)) := by
  refine tq_meth (P := (PtV h0)) (d := (d + 5)) (Nat.le_of_ble_eq_true rfl) ?_
  show Tj G (d + 5) 51 (PtV h0) (fy_Reader_iron G s v0) 0 [some (.ref v0), none] [] (yH s h0)
  unfold fy_Reader_iron
  refine tq_aload_n dX9_iron_0 rfl ?_
  refine tq_iconst (v := 1) dX9_iron_1 (by decide) ?_
  refine tq_aload_n dX9_iron_2 rfl ?_
  refine ty_gR dX9_iron_3 rfl rfl (fun x3 => ?_)
  refine ty_gI dX9_iron_6 rfl rfl (fun x6 => ?_)
  refine tq_iconst (v := 1) dX9_iron_9 (by decide) ?_
  refine tq_isub dX9_iron_10 ?_
  refine tq_aload_n dX9_iron_11 rfl ?_
  refine ty_gR dX9_iron_12 rfl rfl (fun x12 => ?_)
  refine ty_gR dX9_iron_15 rfl rfl (fun x15 => ?_)
  refine ty_v3_tI dX9_iron_18 rfl rfl rfl (Nat.le_of_ble_eq_true rfl) (by decide +kernel) rfl (wfy_Reader_cell hO (d := d) _ _ _ _ _) (fun _ _ a ha => by cases ha; rfl) (fun v18 p18 => ?_)
  refine tq_istore_n (L' := [_, _]) dX9_iron_21 (Nat.le_of_ble_eq_true rfl) rfl ?_
  refine tq_aload_n dX9_iron_22 rfl ?_
  refine ty_gR dX9_iron_23 rfl rfl (fun x23 => ?_)
  refine tq_dup dX9_iron_26 rfl ?_
  refine ty_gI dX9_iron_27 rfl rfl (fun x27 => ?_)
  refine tq_iconst (v := 1) dX9_iron_30 (by decide) ?_
  refine tq_iadd dX9_iron_31 ?_
  refine ty_wI dX9_iron_32 rfl rfl rfl (fun s32 => ?_)
  exact tq_return dX9_iron_35 rfl rfl
abbrev Pfy_Reader_which_b2 (G : ai_G) (d : Nat) (h0 : ai_H) (s : yS) (v0 : Nat) (v1 : Nat) : Int32 ⊕ (Unit ⊕ Int32) → Option ai_R → Prop := Sum.elim (fun (q : Int32) run => ∃ J : Unit, run = ai_run G (d + 5) 52 2 [some (.ref v0), some (.ref v1), some (.int q)] [] (yH s h0)) (Sum.elim (fun (q : Unit) run => ∃ J : JV × JV × JV, run = ai_run G (d + 5) 52 26 [J.1.1, J.2.1.1, J.2.2.1] [] (yH s h0)) (Pi (yH s h0)))
theorem Bfy_Reader_which_b2 {G : ai_G} {d : Nat} {h0 : ai_H} (hO : hOld G h0) (s : yS) (v0 : Nat) (v1 : Nat) (b0 : Int32) (J : Unit) : Tj G (d + 5) 52 (Pfy_Reader_which_b2 G d h0 s v0 v1) (some (.inl b0)) 2 [some (.ref v0), some (.ref v1), some (.int b0)] [] (yH s h0) := tq_back J rfl rfl
theorem Efy_Reader_which_b2 {G : ai_G} {d : Nat} {h0 : ai_H} (hO : hOld G h0) (s : yS) (v0 : Nat) (v1 : Nat)  (J : JV × JV × JV) : Tj G (d + 5) 52 (Pfy_Reader_which_b2 G d h0 s v0 v1) (some (.inr (.inl ()))) 26 [J.1.1, J.2.1.1, J.2.2.1] [] (yH s h0) := tq_exit2 J rfl rfl
theorem wfy_Reader_which_b2 {G : ai_G} {d : Nat} {h0 : ai_H} (hO : hOld G h0) (s : yS) (v0 : Nat) (v1 : Nat) (q : Int32) (J : Unit) : Tj G (d + 5) 52 (Pfy_Reader_which_b2 G d h0 s v0 v1) (fy_Reader_which_b2 G s v0 v1 q) 2 [some (.ref v0), some (.ref v1), some (.int q)] [] (yH s h0) := by
  unfold fy_Reader_which_b2
  refine tq_iload_n dX9_which_2 rfl ?_
  refine tq_aload_n dX9_which_3 rfl ?_
  refine ty_alen hO dX9_which_4 (fun x4 => ?_)
  refine tq_icmp_ge dX9_which_5 rfl ?_ ?_
  · exact Efy_Reader_which_b2 hO _ _ _ (⟨some (.ref v0), rfl⟩, ⟨some (.ref v1), rfl⟩, ⟨some (.int q), rfl⟩)
  · refine tq_aload_n dX9_which_8 rfl ?_
    refine tq_aload_n dX9_which_9 rfl ?_
    refine tq_iload_n dX9_which_10 rfl ?_
    refine ty_aald hO dX9_which_11 (fun x11 => ?_)
    refine ty_v1_i dX9_which_12 rfl rfl rfl (Nat.le_of_ble_eq_true rfl) (wfy_Reader_isWord hO (d := d) _ _ _) (fun p12 => ?_)
    refine tq_if_eq dX9_which_15 rfl ?_ ?_
    · refine tq_iinc (v := (q + 1)) (L' := [_, _, _]) dX9_which_20 rfl (Nat.le_of_ble_eq_true rfl) rfl rfl ?_
      refine tq_goto dX9_which_23 rfl ?_
      exact Bfy_Reader_which_b2 hO _ _ _ _ ()
    · refine tq_iload_n dX9_which_18 rfl ?_
      exact tq_ireturn dX9_which_19 rfl rfl
theorem Sfy_Reader_which_b2 {G : ai_G} {d : Nat} {h0 : ai_H} (hO : hOld G h0) {α : Type} {P : α → Option ai_R → Prop} (s : yS) (v0 : Nat) (v1 : Nat) (b0 : Int32) (J : Unit) {r : Unit → Option α} {r2 : Int32 → Option α} (k2 : ∀ v run, (Pi (yH s h0)) v run → ∀ a, r2 v = some a → P a run) (kk : ∀ (q : Unit) (J : JV × JV × JV), Tj G (d + 5) 52 P (r q) 26 [J.1.1, J.2.1.1, J.2.2.1] [] (yH s h0)) : Tj G (d + 5) 52 P ((lp (fy_Reader_which_b2 G s v0 v1) b0).bind (Sum.elim r r2)) 2 [some (.ref v0), some (.ref v1), some (.int b0)] [] (yH s h0) := tq_lp2 (J := J) (fun q J => wfy_Reader_which_b2 hO s v0 v1 q J) rfl rfl k2 kk
theorem wfy_Reader_which {G : ai_G} {d : Nat} {h0 : ai_H} (hO : hOld G h0) (s : yS) (v0 : Nat) (v1 : Nat) : ∀ r, fy_Reader_which G s v0 v1 = some r → (Pi (yH s h0)) r (ai_call G (d + 6) 52 [.ref v0, .ref v1] (yH s h0)) := by
  refine tq_meth (P := (Pi (yH s h0))) (d := (d + 5)) (Nat.le_of_ble_eq_true rfl) ?_
  show Tj G (d + 5) 52 (Pi (yH s h0)) (fy_Reader_which G s v0 v1) 0 [some (.ref v0), some (.ref v1), none] [] (yH s h0)
  unfold fy_Reader_which
  refine tq_iconst (v := 0) dX9_which_0 (by decide) ?_
  refine tq_istore_n (L' := [_, _, _]) dX9_which_1 (Nat.le_of_ble_eq_true rfl) rfl ?_
  refine Sfy_Reader_which_b2 hO _ _ _ _ () (fun v run hv a ha => by cases ha; exact hv) (fun q2 J2 => ?_)
  refine tq_iconst (v := (-1)) dX9_which_26 (by decide) ?_
  exact tq_ireturn dX9_which_27 rfl rfl
theorem wfy_Itr_init {G : ai_G} {d : Nat} {h0 : ai_H} (hO : hOld G h0) (s : yS) (v0 : Nat) (v1 : Nat) : ∀ r, fy_Itr_init G s v0 v1 = some r → (PyV h0) r (ai_call G (d + 1) 53 [.ref v0, .ref v1] (yH s h0)) := by
  refine tq_meth (P := (PyV h0)) (d := d) (Nat.le_of_ble_eq_true rfl) ?_
  show Tj G d 53 (PyV h0) (fy_Itr_init G s v0 v1) 0 [some (.ref v0), some (.ref v1)] [] (yH s h0)
  unfold fy_Itr_init
  refine tq_aload_n dJ10_init_0 rfl ?_
  refine tq_aload_n dJ10_init_1 rfl ?_
  refine ty_wRr dJ10_init_2 rfl rfl rfl (fun s2 => ?_)
  refine tq_aload_n dJ10_init_5 rfl ?_
  refine tq_objI dJ10_init_6 rfl (Nat.le_of_ble_eq_true rfl) ?_
  refine tq_aload_n dJ10_init_9 rfl ?_
  refine tq_iconst (v := (-1)) dJ10_init_10 (by decide) ?_
  refine ty_wI dJ10_init_11 rfl rfl rfl (fun s11 => ?_)
  refine tq_aload_n dJ10_init_14 rfl ?_
  refine tq_aload_n dJ10_init_15 rfl ?_
  refine ty_gR dJ10_init_16 rfl rfl (fun x16 => ?_)
  refine ty_gI dJ10_init_19 rfl rfl (fun x19 => ?_)
  refine ty_wI dJ10_init_22 rfl rfl rfl (fun s22 => ?_)
  exact tq_return dJ10_init_25 rfl rfl
theorem wfy_List_iterator {G : ai_G} {d : Nat} {h0 : ai_H} (hO : hOld G h0) (s : yS) (v0 : Nat) : ∀ r, fy_List_iterator G s v0 = some r → (PyR h0) r (ai_call G (d + 2) 54 [.ref v0] (yH s h0)) := by
  refine tq_meth (P := (PyR h0)) (d := (d + 1)) (Nat.le_of_ble_eq_true rfl) ?_
  show Tj G (d + 1) 54 (PyR h0) (fy_List_iterator G s v0) 0 [some (.ref v0)] [] (yH s h0)
  unfold fy_List_iterator
  refine ty_new dJ2_iterator_0 rfl (fun s0 => ?_)
  refine tq_dup dJ2_iterator_3 rfl ?_
  refine tq_aload_n dJ2_iterator_4 rfl ?_
  refine ty_c1_V dJ2_iterator_5 rfl rfl rfl (Nat.le_of_ble_eq_true rfl) (wfy_Itr_init hO (d := d) _ _ _) (fun p5 => ?_)
  exact tq_areturn dJ2_iterator_8 rfl rfl rfl
theorem wfy_Itr_hasNext {G : ai_G} {d : Nat} {h0 : ai_H} (hO : hOld G h0) (s : yS) (v0 : Nat) : ∀ r, fy_Itr_hasNext G s v0 = some r → (Pi (yH s h0)) r (ai_call G (d + 1) 55 [.ref v0] (yH s h0)) := by
  refine tq_meth (P := (Pi (yH s h0))) (d := d) (Nat.le_of_ble_eq_true rfl) ?_
  show Tj G d 55 (Pi (yH s h0)) (fy_Itr_hasNext G s v0) 0 [some (.ref v0)] [] (yH s h0)
  unfold fy_Itr_hasNext
  refine tq_aload_n dJ10_hasNext_0 rfl ?_
  refine ty_gI dJ10_hasNext_1 rfl rfl (fun x1 => ?_)
  refine tq_aload_n dJ10_hasNext_4 rfl ?_
  refine ty_gR dJ10_hasNext_5 rfl rfl (fun x5 => ?_)
  refine ty_gI dJ10_hasNext_8 rfl rfl (fun x8 => ?_)
  refine tq_icmp_eq dJ10_hasNext_11 rfl ?_ ?_
  · refine tq_iconst (v := 0) dJ10_hasNext_18 (by decide) ?_
    exact tq_ireturn dJ10_hasNext_19 (by decide) rfl
  · refine tq_iconst (v := 1) dJ10_hasNext_14 (by decide) ?_
    refine tq_goto dJ10_hasNext_15 rfl ?_
    exact tq_ireturn dJ10_hasNext_19 (by decide) rfl
theorem wfy_Itr_checkForComodification {G : ai_G} {d : Nat} {h0 : ai_H} (hO : hOld G h0) (s : yS) (v0 : Nat) : ∀ r, fy_Itr_checkForComodification G s v0 = some r → (Pu (yH s h0)) r (ai_call G (d + 1) 56 [.ref v0] (yH s h0)) := by
  refine tq_meth (P := (Pu (yH s h0))) (d := d) (Nat.le_of_ble_eq_true rfl) ?_
  show Tj G d 56 (Pu (yH s h0)) (fy_Itr_checkForComodification G s v0) 0 [some (.ref v0)] [] (yH s h0)
  unfold fy_Itr_checkForComodification
  refine tq_aload_n dJ10_checkForComodification_0 rfl ?_
  refine ty_gR dJ10_checkForComodification_1 rfl rfl (fun x1 => ?_)
  refine ty_gI dJ10_checkForComodification_4 rfl rfl (fun x4 => ?_)
  refine tq_aload_n dJ10_checkForComodification_7 rfl ?_
  refine ty_gI dJ10_checkForComodification_8 rfl rfl (fun x8 => ?_)
  refine tq_icmp_eq dJ10_checkForComodification_11 rfl ?_ ?_
  · exact tq_return dJ10_checkForComodification_22 rfl rfl
  · exact tq_none
theorem wfy_Itr_next {G : ai_G} {d : Nat} {h0 : ai_H} (hO : hOld G h0) (s : yS) (v0 : Nat) : ∀ r, fy_Itr_next G s v0 = some r → (PyR h0) r (ai_call G (d + 2) 57 [.ref v0] (yH s h0)) := by
  refine tq_meth (P := (PyR h0)) (d := (d + 1)) (Nat.le_of_ble_eq_true rfl) ?_
  show Tj G (d + 1) 57 (PyR h0) (fy_Itr_next G s v0) 0 [some (.ref v0), none, none] [] (yH s h0)
  unfold fy_Itr_next
  refine tq_aload_n dJ10_next_0 rfl ?_
  refine ty_v0_u dJ10_next_1 rfl rfl rfl (Nat.le_of_ble_eq_true rfl) (wfy_Itr_checkForComodification hO (d := d) _ _) (fun p1 => ?_)
  refine tq_aload_n dJ10_next_4 rfl ?_
  refine ty_gI dJ10_next_5 rfl rfl (fun x5 => ?_)
  refine tq_istore_n (L' := [_, _, _]) dJ10_next_8 (Nat.le_of_ble_eq_true rfl) rfl ?_
  refine tq_iload_n dJ10_next_9 rfl ?_
  refine tq_aload_n dJ10_next_10 rfl ?_
  refine ty_gR dJ10_next_11 rfl rfl (fun x11 => ?_)
  refine ty_gI dJ10_next_14 rfl rfl (fun x14 => ?_)
  refine tq_icmp_lt dJ10_next_17 rfl ?_ ?_
  · refine tq_aload_n dJ10_next_28 rfl ?_
    refine ty_gR dJ10_next_29 rfl rfl (fun x29 => ?_)
    refine ty_gR dJ10_next_32 rfl rfl (fun x32 => ?_)
    refine tq_astore_n (L' := [_, _, _]) dJ10_next_35 (Nat.le_of_ble_eq_true rfl) rfl ?_
    refine tq_iload_n dJ10_next_36 rfl ?_
    refine tq_aload_n dJ10_next_37 rfl ?_
    refine ty_alen hO dJ10_next_38 (fun x38 => ?_)
    refine tq_icmp_lt dJ10_next_39 rfl ?_ ?_
    · refine tq_aload_n dJ10_next_50 rfl ?_
      refine tq_iload_n dJ10_next_51 rfl ?_
      refine tq_iconst (v := 1) dJ10_next_52 (by decide) ?_
      refine tq_iadd dJ10_next_53 ?_
      refine ty_wI dJ10_next_54 rfl rfl rfl (fun s54 => ?_)
      refine tq_aload_n dJ10_next_57 rfl ?_
      refine tq_aload_n dJ10_next_58 rfl ?_
      refine tq_iload_n dJ10_next_59 rfl ?_
      refine tq_dup_x1 dJ10_next_60 rfl rfl ?_
      refine ty_wI dJ10_next_61 rfl rfl rfl (fun s61 => ?_)
      refine ty_aald hO dJ10_next_64 (fun x64 => ?_)
      exact tq_areturn dJ10_next_65 rfl rfl rfl
    · exact tq_none
  · exact tq_none
abbrev Pfy_Reader_fresh_b28 (G : ai_G) (d : Nat) (h0 : ai_H) (v0 : Nat) (v2 : Nat) : yS ⊕ (yS ⊕ ((Nat ⊕ Int64) × yS)) → Option ai_R → Prop := Sum.elim (fun (q : yS) run => ∃ J : JV × JV, run = ai_run G (d + 6) 58 28 [some (.ref v0), J.1.1, some (.ref v2), J.2.1] [] (yH q h0)) (Sum.elim (fun (q : yS) run => ∃ J : JV × JV × JV, run = ai_run G (d + 6) 58 75 [some (.ref v0), J.1.1, J.2.1.1, J.2.2.1] [] (yH q h0)) (PtJ h0))
theorem Bfy_Reader_fresh_b28 {G : ai_G} {d : Nat} {h0 : ai_H} (hO : hOld G h0) (v0 : Nat) (v2 : Nat) (b0 : yS) (J : JV × JV) : Tj G (d + 6) 58 (Pfy_Reader_fresh_b28 G d h0 v0 v2) (some (.inl b0)) 28 [some (.ref v0), J.1.1, some (.ref v2), J.2.1] [] (yH b0 h0) := tq_back J rfl rfl
theorem Efy_Reader_fresh_b28 {G : ai_G} {d : Nat} {h0 : ai_H} (hO : hOld G h0) (v0 : Nat) (v2 : Nat) (b0 : yS) (J : JV × JV × JV) : Tj G (d + 6) 58 (Pfy_Reader_fresh_b28 G d h0 v0 v2) (some (.inr (.inl b0))) 75 [some (.ref v0), J.1.1, J.2.1.1, J.2.2.1] [] (yH b0 h0) := tq_exit2 J rfl rfl
theorem wfy_Reader_fresh_b28 {G : ai_G} {d : Nat} {h0 : ai_H} (hO : hOld G h0) (v0 : Nat) (v2 : Nat) (q : yS) (J : JV × JV) : Tj G (d + 6) 58 (Pfy_Reader_fresh_b28 G d h0 v0 v2) (fy_Reader_fresh_b28 G v0 v2 q) 28 [some (.ref v0), J.1.1, some (.ref v2), J.2.1] [] (yH q h0) := by
  unfold fy_Reader_fresh_b28
  refine tq_aload_n dX9_fresh_28 rfl ?_
  refine ty_f0_i dX9_fresh_29 rfl rfl (Nat.le_of_ble_eq_true rfl) (wfy_Itr_hasNext hO (d := d + 5) _ _) (fun p29 => ?_)
  refine tq_if_eq dX9_fresh_34 rfl ?_ ?_
  · exact Efy_Reader_fresh_b28 hO _ _ _ (J.1, ⟨some (.ref v2), rfl⟩, J.2)
  · refine tq_aload_n dX9_fresh_37 rfl ?_
    refine ty_f0_R dX9_fresh_38 rfl rfl (Nat.le_of_ble_eq_true rfl) (wfy_Itr_next hO (d := d + 4) _ _) (fun p38 => ?_)
    refine ty_cast2 dX9_fresh_43 rfl rfl (fun _ => ?_)
    refine tq_astore_n (L' := [_, _, _, _]) dX9_fresh_46 (Nat.le_of_ble_eq_true rfl) rfl ?_
    refine tq_aload_n dX9_fresh_47 rfl ?_
    refine ty_gJ2 dX9_fresh_48 rfl rfl rfl rfl (fun x48 => ?_)
    refine tq_aload_n dX9_fresh_51 rfl ?_
    refine ty_gJ dX9_fresh_52 rfl rfl (fun x52 => ?_)
    refine tq_lcmp dX9_fresh_55 ?_
    refine tq_if_ne dX9_fresh_56 rfl ?_ ?_
    · refine tq_goto dX9_fresh_72 rfl ?_
      exact Bfy_Reader_fresh_b28 hO _ _ _ (J.1, ⟨some (.ref p38.1), rfl⟩)
    · refine tq_aload_n dX9_fresh_59 rfl ?_
      refine ty_gR dX9_fresh_60 rfl rfl (fun x60 => ?_)
      refine tq_iconst (v := 3) dX9_fresh_63 (by decide) ?_
      refine tq_aload_n dX9_fresh_64 rfl ?_
      refine ty_gI dX9_fresh_65 rfl rfl (fun x65 => ?_)
      refine ty_v2_R dX9_fresh_68 rfl rfl rfl (Nat.le_of_ble_eq_true rfl) (wfy_Wrong_by hO (d := d + 5) _ _ _ _) (fun p68 => ?_)
      exact tq_athrow dX9_fresh_71 rfl (by decide +kernel) (fun _ a ha => by cases ha; rfl)
theorem Sfy_Reader_fresh_b28 {G : ai_G} {d : Nat} {h0 : ai_H} (hO : hOld G h0) {α : Type} {P : α → Option ai_R → Prop} (v0 : Nat) (v2 : Nat) (b0 : yS) (J : JV × JV) {r : yS → Option α} {r2 : ((Nat ⊕ Int64) × yS) → Option α} (k2 : ∀ v run, (PtJ h0) v run → ∀ a, r2 v = some a → P a run) (kk : ∀ (q : yS) (J : JV × JV × JV), Tj G (d + 6) 58 P (r q) 75 [some (.ref v0), J.1.1, J.2.1.1, J.2.2.1] [] (yH q h0)) : Tj G (d + 6) 58 P ((lp (fy_Reader_fresh_b28 G v0 v2) b0).bind (Sum.elim r r2)) 28 [some (.ref v0), J.1.1, some (.ref v2), J.2.1] [] (yH b0 h0) := tq_lp2 (J := J) (fun q J => wfy_Reader_fresh_b28 hO v0 v2 q J) rfl rfl k2 kk
theorem wfy_Reader_fresh {G : ai_G} {d : Nat} {h0 : ai_H} (hO : hOld G h0) (s : yS) (v0 : Nat) (v1 : Nat) : ∀ r, fy_Reader_fresh G s v0 v1 = some r → (PtJ h0) r (ai_call G (d + 7) 58 [.ref v0, .ref v1] (yH s h0)) := by
  refine tq_meth (P := (PtJ h0)) (d := (d + 6)) (Nat.le_of_ble_eq_true rfl) ?_
  show Tj G (d + 6) 58 (PtJ h0) (fy_Reader_fresh G s v0 v1) 0 [some (.ref v0), some (.ref v1), none, none] [] (yH s h0)
  unfold fy_Reader_fresh
  refine tq_aload_n dX9_fresh_0 rfl ?_
  refine ty_gI dX9_fresh_1 rfl rfl (fun x1 => ?_)
  refine tq_iconst (v := 1) dX9_fresh_4 (by decide) ?_
  refine tq_icmp_ne dX9_fresh_5 rfl ?_ ?_
  · refine tq_aload_n dX9_fresh_18 rfl ?_
    refine ty_v0_R dX9_fresh_19 rfl rfl rfl (Nat.le_of_ble_eq_true rfl) (wfy_Reader_wrong hO (d := d + 4) _ _) (fun p19 => ?_)
    exact tq_athrow dX9_fresh_22 rfl (by decide +kernel) (fun _ a ha => by cases ha; rfl)
  · refine tq_aload_n dX9_fresh_8 rfl ?_
    refine ty_gets (k9 := 53) dX9_fresh_9 rfl (fun x9 => ?_)
    refine ty_v1_i dX9_fresh_12 rfl rfl rfl (Nat.le_of_ble_eq_true rfl) (wfy_Reader_which hO (d := d) _ _ _) (fun p12 => ?_)
    refine tq_if_lt dX9_fresh_15 rfl ?_ ?_
    · refine tq_aload_n dX9_fresh_23 rfl ?_
      refine ty_v0_R dX9_fresh_24 rfl rfl rfl (Nat.le_of_ble_eq_true rfl) (wfy_List_iterator hO (d := d + 4) _ _) (fun p24 => ?_)
      refine tq_astore_n (L' := [_, _, _, _]) dX9_fresh_27 (Nat.le_of_ble_eq_true rfl) rfl ?_
      refine Sfy_Reader_fresh_b28 hO _ _ _ (⟨some (.ref v1), rfl⟩, ⟨none, rfl⟩) (fun v run hv a ha => by cases ha; exact hv) (fun q28 J28 => ?_)
      refine tq_aload_n dX9_fresh_75 rfl ?_
      refine ty_gJ dX9_fresh_76 rfl rfl (fun x76 => ?_)
      refine tq_lstore_n (L' := [_, _, _, _]) dX9_fresh_79 (Nat.le_of_ble_eq_true rfl) (st2_jv (i := 1) (j := J28.1) rfl rfl) ?_
      refine tq_aload_n dX9_fresh_80 rfl ?_
      refine ty_v0_V dX9_fresh_81 rfl rfl rfl (Nat.le_of_ble_eq_true rfl) (wfy_Reader_next hO (d := d + 3) _ _) (fun p81 => ?_)
      refine tq_lload_n dX9_fresh_84 rfl ?_
      exact tq_lreturn dX9_fresh_85 rfl rfl
    · refine tq_aload_n dX9_fresh_18 rfl ?_
      refine ty_v0_R dX9_fresh_19 rfl rfl rfl (Nat.le_of_ble_eq_true rfl) (wfy_Reader_wrong hO (d := d + 4) _ _) (fun p19 => ?_)
      exact tq_athrow dX9_fresh_22 rfl (by decide +kernel) (fun _ a ha => by cases ha; rfl)
theorem wfy_Called_init {G : ai_G} {d : Nat} {h0 : ai_H} (hO : hOld G h0) (s : yS) (v0 : Nat) (v1 : Int64) : ∀ r, fy_Called_init G s v0 v1 = some r → (PyV h0) r (ai_call G (d + 1) 59 [.ref v0, .long v1] (yH s h0)) := by
  refine tq_meth (P := (PyV h0)) (d := d) (Nat.le_of_ble_eq_true rfl) ?_
  show Tj G d 59 (PyV h0) (fy_Called_init G s v0 v1) 0 [some (.ref v0), some (.long v1), none] [] (yH s h0)
  unfold fy_Called_init
  refine tq_aload_n dX10_init_0 rfl ?_
  refine tq_objI dX10_init_1 rfl (Nat.le_of_ble_eq_true rfl) ?_
  refine tq_aload_n dX10_init_4 rfl ?_
  refine tq_lload_n dX10_init_5 rfl ?_
  refine ty_wJ2 dX10_init_6 rfl rfl rfl rfl rfl rfl (fun s6 => ?_)
  exact tq_return dX10_init_9 rfl rfl
theorem wfy_Board_init {G : ai_G} {d : Nat} {h0 : ai_H} (hO : hOld G h0) (s : yS) (v0 : Nat) (v1 : Int64) : ∀ r, fy_Board_init G s v0 v1 = some r → (PyV h0) r (ai_call G (d + 2) 60 [.ref v0, .long v1] (yH s h0)) := by
  refine tq_meth (P := (PyV h0)) (d := (d + 1)) (Nat.le_of_ble_eq_true rfl) ?_
  show Tj G (d + 1) 60 (PyV h0) (fy_Board_init G s v0 v1) 0 [some (.ref v0), some (.long v1), none] [] (yH s h0)
  unfold fy_Board_init
  refine tq_aload_n dX11_init_0 rfl ?_
  refine tq_lload_n dX11_init_1 rfl ?_
  refine ty_c1_V dX11_init_2 rfl rfl rfl (Nat.le_of_ble_eq_true rfl) (wfy_Called_init hO (d := d) _ _ _) (fun p2 => ?_)
  refine tq_aload_n dX11_init_5 rfl ?_
  refine tq_bipush (v := 20) dX11_init_6 (by decide) ?_
  refine ty_wI dX11_init_8 rfl rfl rfl (fun s8 => ?_)
  exact tq_return dX11_init_11 rfl rfl
theorem wfy_J11_hugeLength {G : ai_G} {d : Nat} {h : ai_H} (v0 : Int32) (v1 : Int32) : ∀ r, fy_J11_hugeLength v0 v1 = some r → (Pi h) r (ai_call G (d + 1) 61 [.int v0, .int v1] h) := by
  refine tq_meth (P := (Pi h)) (d := d) (Nat.le_of_ble_eq_true rfl) ?_
  show Tj G d 61 (Pi h) (fy_J11_hugeLength v0 v1) 0 [some (.int v0), some (.int v1), none] [] h
  unfold fy_J11_hugeLength
  refine tq_iload_n dJ11_hugeLength_0 rfl ?_
  refine tq_iload_n dJ11_hugeLength_1 rfl ?_
  refine tq_iadd dJ11_hugeLength_2 ?_
  refine tq_istore_n (L' := [_, _, _]) dJ11_hugeLength_3 (Nat.le_of_ble_eq_true rfl) rfl ?_
  refine tq_iload_n dJ11_hugeLength_4 rfl ?_
  refine tq_if_ge dJ11_hugeLength_5 rfl ?_ ?_
  · refine tq_iload_n dJ11_hugeLength_49 rfl ?_
    refine tq_ldc (v := .int 2147483639) dJ11_hugeLength_50 rfl ?_
    refine tq_icmp_gt dJ11_hugeLength_52 rfl ?_ ?_
    · refine tq_iload_n dJ11_hugeLength_58 rfl ?_
      exact tq_ireturn dJ11_hugeLength_59 rfl rfl
    · refine tq_ldc (v := .int 2147483639) dJ11_hugeLength_55 rfl ?_
      exact tq_ireturn dJ11_hugeLength_57 rfl rfl
  · exact tq_none
theorem wfy_J11_newLength {G : ai_G} {d : Nat} {h : ai_H} (v0 : Int32) (v1 : Int32) (v2 : Int32) : ∀ r, fy_J11_newLength v0 v1 v2 = some r → (Pi h) r (ai_call G (d + 2) 62 [.int v0, .int v1, .int v2] h) := by
  refine tq_meth (P := (Pi h)) (d := (d + 1)) (Nat.le_of_ble_eq_true rfl) ?_
  show Tj G (d + 1) 62 (Pi h) (fy_J11_newLength v0 v1 v2) 0 [some (.int v0), some (.int v1), some (.int v2), none] [] h
  unfold fy_J11_newLength
  refine tq_iload_n dJ11_newLength_0 rfl ?_
  refine tq_iload_n dJ11_newLength_1 rfl ?_
  refine tq_iload_n dJ11_newLength_2 rfl ?_
  refine tq_imax dJ11_newLength_3 rfl rfl (Nat.le_of_ble_eq_true rfl) ?_
  refine tq_iadd dJ11_newLength_6 ?_
  refine tq_istore_n (L' := [_, _, _, _]) dJ11_newLength_7 (Nat.le_of_ble_eq_true rfl) rfl ?_
  refine tq_iconst (v := 0) dJ11_newLength_8 (by decide) ?_
  refine tq_iload_n dJ11_newLength_9 rfl ?_
  refine tq_icmp_ge dJ11_newLength_10 rfl ?_ ?_
  · refine tq_iload_n dJ11_newLength_21 rfl ?_
    refine tq_iload_n dJ11_newLength_22 rfl ?_
    refine ty_s2_pi dJ11_newLength_23 rfl rfl rfl (Nat.le_of_ble_eq_true rfl) (wfy_J11_hugeLength (d := d) _ _) (fun p23 => ?_)
    exact tq_ireturn dJ11_newLength_26 rfl rfl
  · refine tq_iload_n dJ11_newLength_13 rfl ?_
    refine tq_ldc (v := .int 2147483639) dJ11_newLength_14 rfl ?_
    refine tq_icmp_gt dJ11_newLength_16 rfl ?_ ?_
    · refine tq_iload_n dJ11_newLength_21 rfl ?_
      refine tq_iload_n dJ11_newLength_22 rfl ?_
      refine ty_s2_pi dJ11_newLength_23 rfl rfl rfl (Nat.le_of_ble_eq_true rfl) (wfy_J11_hugeLength (d := d) _ _) (fun p23 => ?_)
      exact tq_ireturn dJ11_newLength_26 rfl rfl
    · refine tq_iload_n dJ11_newLength_19 rfl ?_
      exact tq_ireturn dJ11_newLength_20 rfl rfl
theorem wfy_J13_copyOf_2 {G : ai_G} {d : Nat} {h0 : ai_H} (hO : hOld G h0) (s : yS) (v0 : Nat) (v1 : Int32) (v2 : Nat) : ∀ r, fy_J13_copyOf_2 G s v0 v1 v2 = some r → (PyR h0) r (ai_call G (d + 1) 63 [.ref v0, .int v1, .ref v2] (yH s h0)) := by
  refine tq_meth (P := (PyR h0)) (d := d) (Nat.le_of_ble_eq_true rfl) ?_
  show Tj G d 63 (PyR h0) (fy_J13_copyOf_2 G s v0 v1 v2) 0 [some (.ref v0), some (.int v1), some (.ref v2), none] [] (yH s h0)
  unfold fy_J13_copyOf_2
  refine tq_aload_n dJ13_copyOf_2_0 rfl ?_
  refine ty_ldc (k9 := 40) dJ13_copyOf_2_1 rfl (fun x1 => ?_)
  refine tq_acmp_ne dJ13_copyOf_2_3 rfl ?_ ?_
  · exact tq_none
  · refine tq_iload_n dJ13_copyOf_2_6 rfl ?_
    refine ty_anew dJ13_copyOf_2_7 rfl (Nat.le_of_ble_eq_true rfl) (fun s7 => ?_)
    refine tq_goto dJ13_copyOf_2_10 rfl ?_
    refine tq_astore_n (L' := [_, _, _, _]) dJ13_copyOf_2_24 (Nat.le_of_ble_eq_true rfl) rfl ?_
    refine tq_aload_n dJ13_copyOf_2_25 rfl ?_
    refine tq_iconst (v := 0) dJ13_copyOf_2_26 (by decide) ?_
    refine tq_aload_n dJ13_copyOf_2_27 rfl ?_
    refine tq_iconst (v := 0) dJ13_copyOf_2_28 (by decide) ?_
    refine tq_aload_n dJ13_copyOf_2_29 rfl ?_
    refine ty_alen hO dJ13_copyOf_2_30 (fun x30 => ?_)
    refine tq_iload_n dJ13_copyOf_2_31 rfl ?_
    refine tq_imin dJ13_copyOf_2_32 rfl rfl rfl (Nat.le_of_ble_eq_true rfl) ?_
    refine ty_copyE dJ13_copyOf_2_35 rfl (Nat.le_of_ble_eq_true rfl) (fun s35 => ?_)
    refine tq_aload_n dJ13_copyOf_2_38 rfl ?_
    exact tq_areturn dJ13_copyOf_2_39 rfl rfl rfl
theorem wfy_J13_copyOf {G : ai_G} {d : Nat} {h0 : ai_H} (hO : hOld G h0) (s : yS) (v0 : Nat) (v1 : Int32) : ∀ r, fy_J13_copyOf G s v0 v1 = some r → (PyR h0) r (ai_call G (d + 2) 64 [.ref v0, .int v1] (yH s h0)) := by
  refine tq_meth (P := (PyR h0)) (d := (d + 1)) (Nat.le_of_ble_eq_true rfl) ?_
  show Tj G (d + 1) 64 (PyR h0) (fy_J13_copyOf G s v0 v1) 0 [some (.ref v0), some (.int v1)] [] (yH s h0)
  unfold fy_J13_copyOf
  refine tq_aload_n dJ13_copyOf_0 rfl ?_
  refine tq_iload_n dJ13_copyOf_1 rfl ?_
  refine tq_aload_n dJ13_copyOf_2 rfl ?_
  refine ty_getClass dJ13_copyOf_3 rfl (Nat.le_of_ble_eq_true rfl) (fun x3 => ?_)
  refine ty_s3_R dJ13_copyOf_6 rfl rfl rfl (Nat.le_of_ble_eq_true rfl) (wfy_J13_copyOf_2 hO (d := d) _ _ _ _) (fun p6 => ?_)
  exact tq_areturn dJ13_copyOf_9 rfl rfl rfl

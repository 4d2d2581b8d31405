/-! WALKS of the model: the interpreter does what the functions say (printed by tools/decm.py) -/
set_option maxRecDepth 100000
abbrev Pfm_mooring_b13 (G : ai_G) (d M : Nat) (h0 : ai_H) (v1 : Int32) : (Int32 × mS) ⊕ mS → Option ai_R → Prop := Sum.elim (fun (q : Int32 × mS) run => ∃ J : JV × JV × JV × JV, run = ai_run G (d + 6) 246 13 [some (.ref M), some (.int v1), some (.int q.1), J.1.1, J.2.1.1, J.2.2.1.1, J.2.2.2.1] [] (mH M q.2 h0)) (fun (q : mS) run => ∃ J : JV × JV × JV × JV × JV, run = ai_run G (d + 6) 246 53 [some (.ref M), some (.int v1), J.1.1, J.2.1.1, J.2.2.1.1, J.2.2.2.1.1, J.2.2.2.2.1] [] (mH M q h0))
theorem Bfm_mooring_b13 {G : ai_G} {d M : Nat} {h0 : ai_H} (v1 : Int32) (b0 : Int32) (b1 : mS) (J : JV × JV × JV × JV) : Tj G (d + 6) 246 (Pfm_mooring_b13 G d M h0 v1) (some (.inl (b0, b1))) 13 [some (.ref M), some (.int v1), some (.int b0), J.1.1, J.2.1.1, J.2.2.1.1, J.2.2.2.1] [] (mH M b1 h0) := tq_back J rfl rfl
theorem Efm_mooring_b13 {G : ai_G} {d M : Nat} {h0 : ai_H} (v1 : Int32) (b0 : mS) (J : JV × JV × JV × JV × JV) : Tj G (d + 6) 246 (Pfm_mooring_b13 G d M h0 v1) (some (.inr b0)) 53 [some (.ref M), some (.int v1), J.1.1, J.2.1.1, J.2.2.1.1, J.2.2.2.1.1, J.2.2.2.2.1] [] (mH M b0 h0) := tq_exit J rfl rfl
theorem wfm_mooring_b13 {G : ai_G} {d M : Nat} {h0 : ai_H} (v1 : Int32) (q : Int32 × mS) (J : JV × JV × JV × JV) : Tj G (d + 6) 246 (Pfm_mooring_b13 G d M h0 v1) (fm_mooring_b13 v1 q) 13 [some (.ref M), some (.int v1), some (.int q.1), J.1.1, J.2.1.1, J.2.2.1.1, J.2.2.2.1] [] (mH M q.2 h0) := by
  unfold fm_mooring_b13
  refine tq_iload_n dX8_mooring_13 rfl ?_
  refine tq_aload_n dX8_mooring_14 rfl ?_
  refine tm_gi (k9 := 48) dX8_mooring_15 rfl rfl ?_
  refine tq_icmp_ge dX8_mooring_18 rfl ?_ ?_
  · exact Efm_mooring_b13 _ _ (⟨some (.int q.1), rfl⟩, J.1, J.2.1, J.2.2.1, J.2.2.2)
  · refine tq_aload_n dX8_mooring_21 rfl ?_
    refine tm_ga (j := 32) dX8_mooring_22 rfl rfl ?_
    refine tq_iload_n dX8_mooring_25 rfl ?_
    refine tq_aload_n dX8_mooring_26 rfl ?_
    refine tm_ga (j := 22) dX8_mooring_27 rfl rfl ?_
    refine tq_iconst (v := 4) dX8_mooring_30 (by decide) ?_
    refine tq_iload_n dX8_mooring_31 rfl ?_
    refine tq_iadd dX8_mooring_32 ?_
    refine tm_ild dX8_mooring_33 rfl (fun x33 => ?_)
    refine tq_if_ne dX8_mooring_34 rfl ?_ ?_
    · refine tq_iconst (v := 0) dX8_mooring_45 (by decide) ?_
      refine tm_ist dX8_mooring_46 rfl (fun s46 => ?_)
      refine tq_iinc (v := (q.1 + 1)) (L' := [_, _, _, _, _, _, _]) dX8_mooring_47 rfl (Nat.le_of_ble_eq_true rfl) rfl rfl ?_
      refine tq_goto dX8_mooring_50 rfl ?_
      exact Bfm_mooring_b13 _ _ _ (J.1, J.2.1, J.2.2.1, J.2.2.2)
    · refine tq_aload_n dX8_mooring_37 rfl ?_
      refine tq_iload_n dX8_mooring_38 rfl ?_
      refine tm_c1_I dX8_mooring_39 rfl rfl rfl (Nat.le_of_ble_eq_true rfl) (wfm_landingsOf (d := d) _ _) (fun p39 => ?_)
      refine tq_goto dX8_mooring_42 rfl ?_
      refine tm_ist dX8_mooring_46 rfl (fun s46 => ?_)
      refine tq_iinc (v := (q.1 + 1)) (L' := [_, _, _, _, _, _, _]) dX8_mooring_47 rfl (Nat.le_of_ble_eq_true rfl) rfl rfl ?_
      refine tq_goto dX8_mooring_50 rfl ?_
      exact Bfm_mooring_b13 _ _ _ (J.1, J.2.1, J.2.2.1, J.2.2.2)
theorem Sfm_mooring_b13 {G : ai_G} {d M : Nat} {h0 : ai_H} {α : Type} {P : α → Option ai_R → Prop} (v1 : Int32) (b0 : Int32) (b1 : mS) (J : JV × JV × JV × JV) {r : mS → Option α} (kk : ∀ (q : mS) (J : JV × JV × JV × JV × JV), Tj G (d + 6) 246 P (r q) 53 [some (.ref M), some (.int v1), J.1.1, J.2.1.1, J.2.2.1.1, J.2.2.2.1.1, J.2.2.2.2.1] [] (mH M q h0)) : Tj G (d + 6) 246 P ((lp (fm_mooring_b13 v1) (b0, b1)).bind r) 13 [some (.ref M), some (.int v1), some (.int b0), J.1.1, J.2.1.1, J.2.2.1.1, J.2.2.2.1] [] (mH M b1 h0) := tq_lp1 (J := J) (fun q J => wfm_mooring_b13 v1 q J) rfl rfl kk
abbrev Pfm_mooring_b60 (G : ai_G) (d M : Nat) (h0 : ai_H) (v1 : Int32) : (Int32 × Int32 × Int32 × mS) ⊕ (Int32 × Int32 × mS) → Option ai_R → Prop := Sum.elim (fun (q : Int32 × Int32 × Int32 × mS) run => ∃ J : JV × JV, run = ai_run G (d + 6) 246 60 [some (.ref M), some (.int v1), some (.int q.1), some (.int q.2.1), some (.int q.2.2.1), J.1.1, J.2.1] [] (mH M q.2.2.2 h0)) (fun (q : Int32 × Int32 × mS) run => ∃ J : JV × JV × JV × JV, run = ai_run G (d + 6) 246 180 [J.1.1, some (.int v1), some (.int q.1), some (.int q.2.1), J.2.1.1, J.2.2.1.1, J.2.2.2.1] [] (mH M q.2.2 h0))
theorem Bfm_mooring_b60 {G : ai_G} {d M : Nat} {h0 : ai_H} (v1 : Int32) (b0 : Int32) (b1 : Int32) (b2 : Int32) (b3 : mS) (J : JV × JV) : Tj G (d + 6) 246 (Pfm_mooring_b60 G d M h0 v1) (some (.inl (b0, b1, b2, b3))) 60 [some (.ref M), some (.int v1), some (.int b0), some (.int b1), some (.int b2), J.1.1, J.2.1] [] (mH M b3 h0) := tq_back J rfl rfl
theorem Efm_mooring_b60 {G : ai_G} {d M : Nat} {h0 : ai_H} (v1 : Int32) (b0 : Int32) (b1 : Int32) (b2 : mS) (J : JV × JV × JV × JV) : Tj G (d + 6) 246 (Pfm_mooring_b60 G d M h0 v1) (some (.inr (b0, b1, b2))) 180 [J.1.1, some (.int v1), some (.int b0), some (.int b1), J.2.1.1, J.2.2.1.1, J.2.2.2.1] [] (mH M b2 h0) := tq_exit J rfl rfl
abbrev Pfm_mooring_b121 (G : ai_G) (d M : Nat) (h0 : ai_H) (v1 : Int32) (v2 : Int32) (v3 : Int32) (v4 : Int32) : (Int32 × mS) ⊕ mS → Option ai_R → Prop := Sum.elim (fun (q : Int32 × mS) run => ∃ J : JV, run = ai_run G (d + 6) 246 121 [some (.ref M), some (.int v1), some (.int v2), some (.int v3), some (.int v4), J.1, some (.int q.1)] [] (mH M q.2 h0)) (fun (q : mS) run => ∃ J : JV × JV, run = ai_run G (d + 6) 246 166 [some (.ref M), some (.int v1), some (.int v2), some (.int v3), some (.int v4), J.1.1, J.2.1] [] (mH M q h0))
theorem Bfm_mooring_b121 {G : ai_G} {d M : Nat} {h0 : ai_H} (v1 : Int32) (v2 : Int32) (v3 : Int32) (v4 : Int32) (b0 : Int32) (b1 : mS) (J : JV) : Tj G (d + 6) 246 (Pfm_mooring_b121 G d M h0 v1 v2 v3 v4) (some (.inl (b0, b1))) 121 [some (.ref M), some (.int v1), some (.int v2), some (.int v3), some (.int v4), J.1, some (.int b0)] [] (mH M b1 h0) := tq_back J rfl rfl
theorem Efm_mooring_b121 {G : ai_G} {d M : Nat} {h0 : ai_H} (v1 : Int32) (v2 : Int32) (v3 : Int32) (v4 : Int32) (b0 : mS) (J : JV × JV) : Tj G (d + 6) 246 (Pfm_mooring_b121 G d M h0 v1 v2 v3 v4) (some (.inr b0)) 166 [some (.ref M), some (.int v1), some (.int v2), some (.int v3), some (.int v4), J.1.1, J.2.1] [] (mH M b0 h0) := tq_exit J rfl rfl
theorem wfm_mooring_b121 {G : ai_G} {d M : Nat} {h0 : ai_H} (v1 : Int32) (v2 : Int32) (v3 : Int32) (v4 : Int32) (q : Int32 × mS) (J : JV) : Tj G (d + 6) 246 (Pfm_mooring_b121 G d M h0 v1 v2 v3 v4) (fm_mooring_b121 v1 v2 v3 v4 q) 121 [some (.ref M), some (.int v1), some (.int v2), some (.int v3), some (.int v4), J.1, some (.int q.1)] [] (mH M q.2 h0) := by
  unfold fm_mooring_b121
  refine tq_iload dX8_mooring_121 rfl ?_
  refine tq_aload_n dX8_mooring_123 rfl ?_
  refine tm_gi (k9 := 48) dX8_mooring_124 rfl rfl ?_
  refine tq_icmp_ge dX8_mooring_127 rfl ?_ ?_
  · exact Efm_mooring_b121 _ _ _ _ _ (J, ⟨some (.int q.1), rfl⟩)
  · refine tq_aload_n dX8_mooring_130 rfl ?_
    refine tm_ga (j := 26) dX8_mooring_131 rfl rfl ?_
    refine tq_iload dX8_mooring_134 rfl ?_
    refine tq_aload_n dX8_mooring_136 rfl ?_
    refine tm_ga (j := 33) dX8_mooring_137 rfl rfl ?_
    refine tq_iload dX8_mooring_140 rfl ?_
    refine tm_ild dX8_mooring_142 rfl (fun x142 => ?_)
    refine tq_bipush (v := 8) dX8_mooring_143 (by decide) ?_
    refine tq_icmp_ne dX8_mooring_145 rfl ?_ ?_
    · refine tq_aload_n dX8_mooring_152 rfl ?_
      refine tm_ga (j := 33) dX8_mooring_153 rfl rfl ?_
      refine tq_iload dX8_mooring_156 rfl ?_
      refine tm_ild dX8_mooring_158 rfl (fun x158 => ?_)
      refine tm_ist dX8_mooring_159 rfl (fun s159 => ?_)
      refine tq_iinc (v := (q.1 + 1)) (L' := [_, _, _, _, _, _, _]) dX8_mooring_160 rfl (Nat.le_of_ble_eq_true rfl) rfl (st1_jv (i := 5) (j := J) rfl rfl) ?_
      refine tq_goto dX8_mooring_163 rfl ?_
      exact Bfm_mooring_b121 _ _ _ _ _ _ J
    · refine tq_iconst (v := (-1)) dX8_mooring_148 (by decide) ?_
      refine tq_goto dX8_mooring_149 rfl ?_
      refine tm_ist dX8_mooring_159 rfl (fun s159 => ?_)
      refine tq_iinc (v := (q.1 + 1)) (L' := [_, _, _, _, _, _, _]) dX8_mooring_160 rfl (Nat.le_of_ble_eq_true rfl) rfl (st1_jv (i := 5) (j := J) rfl rfl) ?_
      refine tq_goto dX8_mooring_163 rfl ?_
      exact Bfm_mooring_b121 _ _ _ _ _ _ J
theorem Sfm_mooring_b121 {G : ai_G} {d M : Nat} {h0 : ai_H} {α : Type} {P : α → Option ai_R → Prop} (v1 : Int32) (v2 : Int32) (v3 : Int32) (v4 : Int32) (b0 : Int32) (b1 : mS) (J : JV) {r : mS → Option α} (kk : ∀ (q : mS) (J : JV × JV), Tj G (d + 6) 246 P (r q) 166 [some (.ref M), some (.int v1), some (.int v2), some (.int v3), some (.int v4), J.1.1, J.2.1] [] (mH M q h0)) : Tj G (d + 6) 246 P ((lp (fm_mooring_b121 v1 v2 v3 v4) (b0, b1)).bind r) 121 [some (.ref M), some (.int v1), some (.int v2), some (.int v3), some (.int v4), J.1, some (.int b0)] [] (mH M b1 h0) := tq_lp1 (J := J) (fun q J => wfm_mooring_b121 v1 v2 v3 v4 q J) rfl rfl kk
theorem wfm_mooring_j110 {G : ai_G} {d M : Nat} {h0 : ai_H} (j2 : JV) (j3 : JV) (j6 : JV)   (s : mS) (v1 : Int32) (v4 : Int32) (v5 : Int32): Tj G (d + 6) 246 (Pfm_mooring_b60 G d M h0 v1) (fm_mooring_j110 s v1 v4 v5) 110 [some (.ref M), some (.int v1), j2.1, j3.1, some (.int v4), some (.int v5), j6.1] [] (mH M s h0) := by
  unfold fm_mooring_j110
  refine tq_iload dX8_mooring_110 rfl ?_
  refine tq_istore_n (L' := [_, _, _, _, _, _, _]) dX8_mooring_112 (Nat.le_of_ble_eq_true rfl) rfl ?_
  refine tq_aload_n dX8_mooring_113 rfl ?_
  refine tm_c0_i dX8_mooring_114 rfl rfl rfl (Nat.le_of_ble_eq_true rfl) (wfm_betweenAll (d := d + 4) _) (fun p114 => ?_)
  refine tq_istore_n (L' := [_, _, _, _, _, _, _]) dX8_mooring_117 (Nat.le_of_ble_eq_true rfl) rfl ?_
  refine tq_iconst (v := 0) dX8_mooring_118 (by decide) ?_
  refine tq_istore (L' := [_, _, _, _, _, _, _]) dX8_mooring_119 (Nat.le_of_ble_eq_true rfl) rfl ?_
  refine Sfm_mooring_b121 _ _ _ _ _ _ ⟨some (.int v5), rfl⟩ (fun q121 J121 => ?_)
  refine tq_aload_n dX8_mooring_166 rfl ?_
  refine tq_aload_n dX8_mooring_167 rfl ?_
  refine tm_gi (k9 := 48) dX8_mooring_168 rfl rfl ?_
  refine tm_pi dX8_mooring_171 rfl rfl (fun s171 => ?_)
  refine tq_iinc (v := (v4 + 1)) (L' := [_, _, _, _, _, _, _]) dX8_mooring_174 rfl (Nat.le_of_ble_eq_true rfl) rfl rfl ?_
  refine tq_goto dX8_mooring_177 rfl ?_
  exact Bfm_mooring_b60 _ _ _ _ _ (J121.1, J121.2)
theorem wfm_mooring_b60 {G : ai_G} {d M : Nat} {h0 : ai_H} (v1 : Int32) (q : Int32 × Int32 × Int32 × mS) (J : JV × JV) : Tj G (d + 6) 246 (Pfm_mooring_b60 G d M h0 v1) (fm_mooring_b60 v1 q) 60 [some (.ref M), some (.int v1), some (.int q.1), some (.int q.2.1), some (.int q.2.2.1), J.1.1, J.2.1] [] (mH M q.2.2.2 h0) := by
  unfold fm_mooring_b60
  refine tq_iload dX8_mooring_60 rfl ?_
  refine tq_bipush (v := 9) dX8_mooring_62 (by decide) ?_
  refine tq_aload_n dX8_mooring_64 rfl ?_
  refine tm_gi (k9 := 48) dX8_mooring_65 rfl rfl ?_
  refine ts_c2_i dX8_mooring_68 rfl rfl rfl (Nat.le_of_ble_eq_true rfl) (wfm_power (d := d + 5) _ _) (fun p68 => ?_)
  refine tq_icmp_ge dX8_mooring_71 rfl ?_ ?_
  · exact Efm_mooring_b60 _ _ _ _ (⟨some (.ref M), rfl⟩, ⟨some (.int q.2.2.1), rfl⟩, J.1, J.2)
  · refine tq_aload_n dX8_mooring_74 rfl ?_
    refine tq_iload dX8_mooring_75 rfl ?_
    refine tm_c1_I dX8_mooring_77 rfl rfl rfl (Nat.le_of_ble_eq_true rfl) (wfm_layMooring (d := d + 5) _ _) (fun p77 => ?_)
    refine tq_istore (L' := [_, _, _, _, _, _, _]) dX8_mooring_80 (Nat.le_of_ble_eq_true rfl) rfl ?_
    refine tq_iload dX8_mooring_82 rfl ?_
    refine tq_if_lt dX8_mooring_84 rfl ?_ ?_
    · refine tq_iinc (v := (q.2.2.1 + 1)) (L' := [_, _, _, _, _, _, _]) dX8_mooring_174 rfl (Nat.le_of_ble_eq_true rfl) rfl rfl ?_
      refine tq_goto dX8_mooring_177 rfl ?_
      exact Bfm_mooring_b60 _ _ _ _ _ (⟨some (.int p77.1), rfl⟩, J.2)
    · refine tq_iload dX8_mooring_87 rfl ?_
      refine tq_iload_n dX8_mooring_89 rfl ?_
      refine tq_icmp_lt dX8_mooring_90 rfl ?_ ?_
      · refine tq_iinc (v := (q.2.2.1 + 1)) (L' := [_, _, _, _, _, _, _]) dX8_mooring_174 rfl (Nat.le_of_ble_eq_true rfl) rfl rfl ?_
        refine tq_goto dX8_mooring_177 rfl ?_
        exact Bfm_mooring_b60 _ _ _ _ _ (⟨some (.int p77.1), rfl⟩, J.2)
      · refine tq_iload dX8_mooring_93 rfl ?_
        refine tq_iload_n dX8_mooring_95 rfl ?_
        refine tq_icmp_ne dX8_mooring_96 rfl ?_ ?_
        · exact wfm_mooring_j110 ⟨some (.int q.1), rfl⟩ ⟨some (.int q.2.1), rfl⟩ J.2 _ _ _ _
        · refine tq_aload_n dX8_mooring_99 rfl ?_
          refine tm_c0_i dX8_mooring_100 rfl rfl rfl (Nat.le_of_ble_eq_true rfl) (wfm_betweenAll (d := d + 4) _) (fun p100 => ?_)
          refine tq_iload_n dX8_mooring_103 rfl ?_
          refine tq_icmp_lt dX8_mooring_104 rfl ?_ ?_
          · exact wfm_mooring_j110 ⟨some (.int q.1), rfl⟩ ⟨some (.int q.2.1), rfl⟩ J.2 _ _ _ _
          · refine tq_goto dX8_mooring_107 rfl ?_
            refine tq_iinc (v := (q.2.2.1 + 1)) (L' := [_, _, _, _, _, _, _]) dX8_mooring_174 rfl (Nat.le_of_ble_eq_true rfl) rfl rfl ?_
            refine tq_goto dX8_mooring_177 rfl ?_
            exact Bfm_mooring_b60 _ _ _ _ _ (⟨some (.int p77.1), rfl⟩, J.2)
theorem Sfm_mooring_b60 {G : ai_G} {d M : Nat} {h0 : ai_H} {α : Type} {P : α → Option ai_R → Prop} (v1 : Int32) (b0 : Int32) (b1 : Int32) (b2 : Int32) (b3 : mS) (J : JV × JV) {r : (Int32 × Int32 × mS) → Option α} (kk : ∀ (q : Int32 × Int32 × mS) (J : JV × JV × JV × JV), Tj G (d + 6) 246 P (r q) 180 [J.1.1, some (.int v1), some (.int q.1), some (.int q.2.1), J.2.1.1, J.2.2.1.1, J.2.2.2.1] [] (mH M q.2.2 h0)) : Tj G (d + 6) 246 P ((lp (fm_mooring_b60 v1) (b0, b1, b2, b3)).bind r) 60 [some (.ref M), some (.int v1), some (.int b0), some (.int b1), some (.int b2), J.1.1, J.2.1] [] (mH M b3 h0) := tq_lp1 (J := J) (fun q J => wfm_mooring_b60 v1 q J) rfl rfl kk
theorem wfm_mooring {G : ai_G} {d M : Nat} {h0 : ai_H} (s : mS) (v1 : Int32) : ∀ r, fm_mooring s v1 = some r → (PmI M h0) r (ai_call G (d + 7) 246 [.ref M, .int v1] (mH M s h0)) := by
  refine tq_meth (P := (PmI M h0)) (d := (d + 6)) (Nat.le_of_ble_eq_true rfl) ?_
  show Tj G (d + 6) 246 (PmI M h0) (fm_mooring s v1) 0 [some (.ref M), some (.int v1), none, none, none, none, none] [] (mH M s h0)
  unfold fm_mooring
  refine tq_iload_n dX8_mooring_0 rfl ?_
  refine tq_iconst (v := 0) dX8_mooring_1 (by decide) ?_
  refine tq_iconst (v := 1) dX8_mooring_2 (by decide) ?_
  refine ts_c3_i dX8_mooring_3 rfl rfl rfl (Nat.le_of_ble_eq_true rfl) (wfm_isIn (d := d + 5) _ _ _) (fun p3 => ?_)
  refine tq_if_ne dX8_mooring_6 rfl ?_ ?_
  · refine tq_iconst (v := 0) dX8_mooring_11 (by decide) ?_
    refine tq_istore_n (L' := [_, _, _, _, _, _, _]) dX8_mooring_12 (Nat.le_of_ble_eq_true rfl) rfl ?_
    refine Sfm_mooring_b13 _ _ _ (⟨none, rfl⟩, ⟨none, rfl⟩, ⟨none, rfl⟩, ⟨none, rfl⟩) (fun q13 J13 => ?_)
    refine tq_iconst (v := (-1)) dX8_mooring_53 (by decide) ?_
    refine tq_istore_n (L' := [_, _, _, _, _, _, _]) dX8_mooring_54 (Nat.le_of_ble_eq_true rfl) rfl ?_
    refine tq_iconst (v := 0) dX8_mooring_55 (by decide) ?_
    refine tq_istore_n (L' := [_, _, _, _, _, _, _]) dX8_mooring_56 (Nat.le_of_ble_eq_true rfl) rfl ?_
    refine tq_iconst (v := 0) dX8_mooring_57 (by decide) ?_
    refine tq_istore (L' := [_, _, _, _, _, _, _]) dX8_mooring_58 (Nat.le_of_ble_eq_true rfl) rfl ?_
    refine Sfm_mooring_b60 _ _ _ _ _ (J13.2.2.2.1, J13.2.2.2.2) (fun q60 J60 => ?_)
    refine tq_iload_n dX8_mooring_180 rfl ?_
    refine tq_if_ne dX8_mooring_181 rfl ?_ ?_
    · refine tq_iload_n dX8_mooring_188 rfl ?_
      exact tq_ireturn dX8_mooring_189 rfl rfl
    · refine tq_iload_n dX8_mooring_184 rfl ?_
      refine tq_goto dX8_mooring_185 rfl ?_
      exact tq_ireturn dX8_mooring_189 rfl rfl
  · refine tq_iconst (v := (-1)) dX8_mooring_9 (by decide) ?_
    exact tq_ireturn dX8_mooring_10 rfl rfl
theorem wfm_guestWorth_j11 {G : ai_G} {d M : Nat} {h0 : ai_H} (j3 : JV)   (s : mS) (v1 : Int32) (v2 : Int32) (t0 : Int32): Tj G (d + 1) 250 (Pi (mH M s h0)) (fm_guestWorth_j11 s v1 v2 t0) 11 [some (.ref M), some (.int v1), some (.int v2), j3.1] [.int t0] (mH M s h0) := by
  unfold fm_guestWorth_j11
  refine tq_iload_n dX8_guestWorth_11 rfl ?_
  refine tq_aload_n dX8_guestWorth_12 rfl ?_
  refine tm_ga (j := 22) dX8_guestWorth_13 rfl rfl ?_
  refine tq_iload_n dX8_guestWorth_16 rfl ?_
  refine tm_ild dX8_guestWorth_17 rfl (fun x17 => ?_)
  refine tq_isub dX8_guestWorth_18 ?_
  refine ts_c1_i dX8_guestWorth_19 rfl rfl rfl (Nat.le_of_ble_eq_true rfl) (wfm_plain (d := d) _) (fun p19 => ?_)
  refine tq_isub dX8_guestWorth_22 ?_
  exact tq_ireturn dX8_guestWorth_23 rfl rfl
theorem wfm_guestWorth {G : ai_G} {d M : Nat} {h0 : ai_H} (s : mS) (v1 : Int32) (v2 : Int32) (v3 : Int32) : ∀ r, fm_guestWorth s v1 v2 v3 = some r → (Pi (mH M s h0)) r (ai_call G (d + 2) 250 [.ref M, .int v1, .int v2, .int v3] (mH M s h0)) := by
  refine tq_meth (P := (Pi (mH M s h0))) (d := (d + 1)) (Nat.le_of_ble_eq_true rfl) ?_
  show Tj G (d + 1) 250 (Pi (mH M s h0)) (fm_guestWorth s v1 v2 v3) 0 [some (.ref M), some (.int v1), some (.int v2), some (.int v3)] [] (mH M s h0)
  unfold fm_guestWorth
  refine tq_iload_n dX8_guestWorth_0 rfl ?_
  refine tq_iload_n dX8_guestWorth_1 rfl ?_
  refine tq_icmp_ne dX8_guestWorth_2 rfl ?_ ?_
  · refine tq_bipush (v := 9) dX8_guestWorth_9 (by decide) ?_
    exact wfm_guestWorth_j11 ⟨some (.int v3), rfl⟩ _ _ _ _
  · refine tq_iconst (v := 3) dX8_guestWorth_5 (by decide) ?_
    refine tq_goto dX8_guestWorth_6 rfl ?_
    exact wfm_guestWorth_j11 ⟨some (.int v3), rfl⟩ _ _ _ _
abbrev Pfm_isRest_b6 (G : ai_G) (d M : Nat) (h0 : ai_H) (s : mS) (v1 : Int32) (v2 : Int32) (v3 : Int32) (v4 : Int32) (v5 : Int32) (v6 : Int32) : (Int32 × Int32) ⊕ Int32 → Option ai_R → Prop := Sum.elim (fun (q : Int32 × Int32) run => ∃ J : Unit, run = ai_run G (d + 2) 251 6 [some (.ref M), some (.int v1), some (.int v2), some (.int v3), some (.int v4), some (.int v5), some (.int v6), some (.int q.1), some (.int q.2)] [] (mH M s h0)) (fun (q : Int32) run => ∃ J : JV × JV × JV × JV × JV × JV × JV × JV, run = ai_run G (d + 2) 251 108 [J.1.1, J.2.1.1, J.2.2.1.1, J.2.2.2.1.1, J.2.2.2.2.1.1, J.2.2.2.2.2.1.1, J.2.2.2.2.2.2.1.1, some (.int q), J.2.2.2.2.2.2.2.1] [] (mH M s h0))
theorem Bfm_isRest_b6 {G : ai_G} {d M : Nat} {h0 : ai_H} (s : mS) (v1 : Int32) (v2 : Int32) (v3 : Int32) (v4 : Int32) (v5 : Int32) (v6 : Int32) (b0 : Int32) (b1 : Int32) (J : Unit) : Tj G (d + 2) 251 (Pfm_isRest_b6 G d M h0 s v1 v2 v3 v4 v5 v6) (some (.inl (b0, b1))) 6 [some (.ref M), some (.int v1), some (.int v2), some (.int v3), some (.int v4), some (.int v5), some (.int v6), some (.int b0), some (.int b1)] [] (mH M s h0) := tq_back J rfl rfl
theorem Efm_isRest_b6 {G : ai_G} {d M : Nat} {h0 : ai_H} (s : mS) (v1 : Int32) (v2 : Int32) (v3 : Int32) (v4 : Int32) (v5 : Int32) (v6 : Int32) (b0 : Int32) (J : JV × JV × JV × JV × JV × JV × JV × JV) : Tj G (d + 2) 251 (Pfm_isRest_b6 G d M h0 s v1 v2 v3 v4 v5 v6) (some (.inr b0)) 108 [J.1.1, J.2.1.1, J.2.2.1.1, J.2.2.2.1.1, J.2.2.2.2.1.1, J.2.2.2.2.2.1.1, J.2.2.2.2.2.2.1.1, some (.int b0), J.2.2.2.2.2.2.2.1] [] (mH M s h0) := tq_exit J rfl rfl
theorem wfm_isRest_j58 {G : ai_G} {d M : Nat} {h0 : ai_H}    (s : mS) (v1 : Int32) (v2 : Int32) (v3 : Int32) (v4 : Int32) (v5 : Int32) (v6 : Int32) (v7 : Int32) (v8 : Int32): Tj G (d + 2) 251 (Pfm_isRest_b6 G d M h0 s v1 v2 v3 v4 v5 v6) (fm_isRest_j58 s v1 v2 v3 v4 v5 v6 v7 v8) 58 [some (.ref M), some (.int v1), some (.int v2), some (.int v3), some (.int v4), some (.int v5), some (.int v6), some (.int v7), some (.int v8)] [] (mH M s h0) := by
  unfold fm_isRest_j58
  refine tq_iload dX8_isRest_58 rfl ?_
  refine tq_iload dX8_isRest_60 rfl ?_
  refine tq_ishr dX8_isRest_62 ?_
  refine tq_iconst (v := 1) dX8_isRest_63 (by decide) ?_
  refine tq_iand dX8_isRest_64 ?_
  refine tq_iconst (v := 1) dX8_isRest_65 (by decide) ?_
  refine tq_icmp_ne dX8_isRest_66 rfl ?_ ?_
  · refine tq_iinc (v := (v8 + 1)) (L' := [_, _, _, _, _, _, _, _, _]) dX8_isRest_102 rfl (Nat.le_of_ble_eq_true rfl) rfl rfl ?_
    refine tq_goto dX8_isRest_105 rfl ?_
    exact Bfm_isRest_b6 _ _ _ _ _ _ _ _ _ ()
  · refine tq_iload dX8_isRest_69 rfl ?_
    refine tq_if_eq dX8_isRest_71 rfl ?_ ?_
    · refine tq_iconst (v := 0) dX8_isRest_99 (by decide) ?_
      refine tq_istore (L' := [_, _, _, _, _, _, _, _, _]) dX8_isRest_100 (Nat.le_of_ble_eq_true rfl) rfl ?_
      refine tq_iinc (v := (v8 + 1)) (L' := [_, _, _, _, _, _, _, _, _]) dX8_isRest_102 rfl (Nat.le_of_ble_eq_true rfl) rfl rfl ?_
      refine tq_goto dX8_isRest_105 rfl ?_
      exact Bfm_isRest_b6 _ _ _ _ _ _ _ _ _ ()
    · refine tq_aload_n dX8_isRest_74 rfl ?_
      refine tq_iload_n dX8_isRest_75 rfl ?_
      refine tq_iload dX8_isRest_76 rfl ?_
      refine tq_iload dX8_isRest_78 rfl ?_
      refine tm_c3_i dX8_isRest_80 rfl rfl rfl (Nat.le_of_ble_eq_true rfl) (wfm_guestWorth (d := d) _ _ _ _) (fun p80 => ?_)
      refine tq_aload_n dX8_isRest_83 rfl ?_
      refine tq_iload_n dX8_isRest_84 rfl ?_
      refine tq_iload dX8_isRest_85 rfl ?_
      refine tq_iload dX8_isRest_87 rfl ?_
      refine tm_c3_i dX8_isRest_89 rfl rfl rfl (Nat.le_of_ble_eq_true rfl) (wfm_guestWorth (d := d) _ _ _ _) (fun p89 => ?_)
      refine tq_icmp_gt dX8_isRest_92 rfl ?_ ?_
      · refine tq_iconst (v := 0) dX8_isRest_99 (by decide) ?_
        refine tq_istore (L' := [_, _, _, _, _, _, _, _, _]) dX8_isRest_100 (Nat.le_of_ble_eq_true rfl) rfl ?_
        refine tq_iinc (v := (v8 + 1)) (L' := [_, _, _, _, _, _, _, _, _]) dX8_isRest_102 rfl (Nat.le_of_ble_eq_true rfl) rfl rfl ?_
        refine tq_goto dX8_isRest_105 rfl ?_
        exact Bfm_isRest_b6 _ _ _ _ _ _ _ _ _ ()
      · refine tq_iconst (v := 1) dX8_isRest_95 (by decide) ?_
        refine tq_goto dX8_isRest_96 rfl ?_
        refine tq_istore (L' := [_, _, _, _, _, _, _, _, _]) dX8_isRest_100 (Nat.le_of_ble_eq_true rfl) rfl ?_
        refine tq_iinc (v := (v8 + 1)) (L' := [_, _, _, _, _, _, _, _, _]) dX8_isRest_102 rfl (Nat.le_of_ble_eq_true rfl) rfl rfl ?_
        refine tq_goto dX8_isRest_105 rfl ?_
        exact Bfm_isRest_b6 _ _ _ _ _ _ _ _ _ ()
theorem wfm_isRest_j56 {G : ai_G} {d M : Nat} {h0 : ai_H} (j7 : JV)   (s : mS) (v1 : Int32) (v2 : Int32) (v3 : Int32) (v4 : Int32) (v5 : Int32) (v6 : Int32) (v8 : Int32) (t0 : Int32): Tj G (d + 2) 251 (Pfm_isRest_b6 G d M h0 s v1 v2 v3 v4 v5 v6) (fm_isRest_j56 s v1 v2 v3 v4 v5 v6 v8 t0) 56 [some (.ref M), some (.int v1), some (.int v2), some (.int v3), some (.int v4), some (.int v5), some (.int v6), j7.1, some (.int v8)] [.int t0] (mH M s h0) := by
  unfold fm_isRest_j56
  refine tq_istore (L' := [_, _, _, _, _, _, _, _, _]) dX8_isRest_56 (Nat.le_of_ble_eq_true rfl) rfl ?_
  exact wfm_isRest_j58 _ _ _ _ _ _ _ _ _
theorem wfm_isRest_j55 {G : ai_G} {d M : Nat} {h0 : ai_H} (j7 : JV)   (s : mS) (v1 : Int32) (v2 : Int32) (v3 : Int32) (v4 : Int32) (v5 : Int32) (v6 : Int32) (v8 : Int32): Tj G (d + 2) 251 (Pfm_isRest_b6 G d M h0 s v1 v2 v3 v4 v5 v6) (fm_isRest_j55 s v1 v2 v3 v4 v5 v6 v8) 55 [some (.ref M), some (.int v1), some (.int v2), some (.int v3), some (.int v4), some (.int v5), some (.int v6), j7.1, some (.int v8)] [] (mH M s h0) := by
  unfold fm_isRest_j55
  refine tq_iconst (v := 0) dX8_isRest_55 (by decide) ?_
  exact wfm_isRest_j56 j7 _ _ _ _ _ _ _ _ _
theorem wfm_isRest_b6 {G : ai_G} {d M : Nat} {h0 : ai_H} (s : mS) (v1 : Int32) (v2 : Int32) (v3 : Int32) (v4 : Int32) (v5 : Int32) (v6 : Int32) (q : Int32 × Int32) (J : Unit) : Tj G (d + 2) 251 (Pfm_isRest_b6 G d M h0 s v1 v2 v3 v4 v5 v6) (fm_isRest_b6 s v1 v2 v3 v4 v5 v6 q) 6 [some (.ref M), some (.int v1), some (.int v2), some (.int v3), some (.int v4), some (.int v5), some (.int v6), some (.int q.1), some (.int q.2)] [] (mH M s h0) := by
  unfold fm_isRest_b6
  refine tq_iload dX8_isRest_6 rfl ?_
  refine tq_aload_n dX8_isRest_8 rfl ?_
  refine tm_gi (k9 := 46) dX8_isRest_9 rfl rfl ?_
  refine tq_icmp_ge dX8_isRest_12 rfl ?_ ?_
  · exact Efm_isRest_b6 _ _ _ _ _ _ _ _ (⟨some (.ref M), rfl⟩, ⟨some (.int v1), rfl⟩, ⟨some (.int v2), rfl⟩, ⟨some (.int v3), rfl⟩, ⟨some (.int v4), rfl⟩, ⟨some (.int v5), rfl⟩, ⟨some (.int v6), rfl⟩, ⟨some (.int q.2), rfl⟩)
  · refine tq_iload_n dX8_isRest_15 rfl ?_
    refine tq_iload dX8_isRest_16 rfl ?_
    refine tq_ishr dX8_isRest_18 ?_
    refine tq_iconst (v := 1) dX8_isRest_19 (by decide) ?_
    refine tq_iand dX8_isRest_20 ?_
    refine tq_iconst (v := 1) dX8_isRest_21 (by decide) ?_
    refine tq_icmp_ne dX8_isRest_22 rfl ?_ ?_
    · exact wfm_isRest_j58 _ _ _ _ _ _ _ _ _
    · refine tq_iload dX8_isRest_25 rfl ?_
      refine tq_if_eq dX8_isRest_27 rfl ?_ ?_
      · exact wfm_isRest_j55 ⟨some (.int q.1), rfl⟩ _ _ _ _ _ _ _ _
      · refine tq_aload_n dX8_isRest_30 rfl ?_
        refine tq_iload_n dX8_isRest_31 rfl ?_
        refine tq_iload dX8_isRest_32 rfl ?_
        refine tq_iload dX8_isRest_34 rfl ?_
        refine tm_c3_i dX8_isRest_36 rfl rfl rfl (Nat.le_of_ble_eq_true rfl) (wfm_guestWorth (d := d) _ _ _ _) (fun p36 => ?_)
        refine tq_aload_n dX8_isRest_39 rfl ?_
        refine tq_iload_n dX8_isRest_40 rfl ?_
        refine tq_iload dX8_isRest_41 rfl ?_
        refine tq_iload dX8_isRest_43 rfl ?_
        refine tm_c3_i dX8_isRest_45 rfl rfl rfl (Nat.le_of_ble_eq_true rfl) (wfm_guestWorth (d := d) _ _ _ _) (fun p45 => ?_)
        refine tq_icmp_gt dX8_isRest_48 rfl ?_ ?_
        · exact wfm_isRest_j55 ⟨some (.int q.1), rfl⟩ _ _ _ _ _ _ _ _
        · refine tq_iconst (v := 1) dX8_isRest_51 (by decide) ?_
          refine tq_goto dX8_isRest_52 rfl ?_
          exact wfm_isRest_j56 ⟨some (.int q.1), rfl⟩ _ _ _ _ _ _ _ _ _
theorem Sfm_isRest_b6 {G : ai_G} {d M : Nat} {h0 : ai_H} {α : Type} {P : α → Option ai_R → Prop} (s : mS) (v1 : Int32) (v2 : Int32) (v3 : Int32) (v4 : Int32) (v5 : Int32) (v6 : Int32) (b0 : Int32) (b1 : Int32) (J : Unit) {r : Int32 → Option α} (kk : ∀ (q : Int32) (J : JV × JV × JV × JV × JV × JV × JV × JV), Tj G (d + 2) 251 P (r q) 108 [J.1.1, J.2.1.1, J.2.2.1.1, J.2.2.2.1.1, J.2.2.2.2.1.1, J.2.2.2.2.2.1.1, J.2.2.2.2.2.2.1.1, some (.int q), J.2.2.2.2.2.2.2.1] [] (mH M s h0)) : Tj G (d + 2) 251 P ((lp (fm_isRest_b6 s v1 v2 v3 v4 v5 v6) (b0, b1)).bind r) 6 [some (.ref M), some (.int v1), some (.int v2), some (.int v3), some (.int v4), some (.int v5), some (.int v6), some (.int b0), some (.int b1)] [] (mH M s h0) := tq_lp1 (J := J) (fun q J => wfm_isRest_b6 s v1 v2 v3 v4 v5 v6 q J) rfl rfl kk
theorem wfm_isRest {G : ai_G} {d M : Nat} {h0 : ai_H} (s : mS) (v1 : Int32) (v2 : Int32) (v3 : Int32) (v4 : Int32) (v5 : Int32) (v6 : Int32) : ∀ r, fm_isRest s v1 v2 v3 v4 v5 v6 = some r → (Pi (mH M s h0)) r (ai_call G (d + 3) 251 [.ref M, .int v1, .int v2, .int v3, .int v4, .int v5, .int v6] (mH M s h0)) := by
  refine tq_meth (P := (Pi (mH M s h0))) (d := (d + 2)) (Nat.le_of_ble_eq_true rfl) ?_
  show Tj G (d + 2) 251 (Pi (mH M s h0)) (fm_isRest s v1 v2 v3 v4 v5 v6) 0 [some (.ref M), some (.int v1), some (.int v2), some (.int v3), some (.int v4), some (.int v5), some (.int v6), none, none] [] (mH M s h0)
  unfold fm_isRest
  refine tq_iconst (v := 1) dX8_isRest_0 (by decide) ?_
  refine tq_istore (L' := [_, _, _, _, _, _, _, _, _]) dX8_isRest_1 (Nat.le_of_ble_eq_true rfl) rfl ?_
  refine tq_iconst (v := 0) dX8_isRest_3 (by decide) ?_
  refine tq_istore (L' := [_, _, _, _, _, _, _, _, _]) dX8_isRest_4 (Nat.le_of_ble_eq_true rfl) rfl ?_
  refine Sfm_isRest_b6 _ _ _ _ _ _ _ _ _ () (fun q6 J6 => ?_)
  refine tq_iload dX8_isRest_108 rfl ?_
  exact tq_iretB dX8_isRest_110 rfl rfl rfl
abbrev Pfm_guests_b58 (G : ai_G) (d M : Nat) (h0 : ai_H) (v1 : Int32) (v2 : Int32) (v3 : Int32) (v4 : Int32) : (Int32 × Int32 × mS) ⊕ (Int32 × mS) → Option ai_R → Prop := Sum.elim (fun (q : Int32 × Int32 × mS) run => ∃ J : JV, run = ai_run G (d + 6) 252 58 [some (.ref M), some (.int v1), some (.int v2), some (.int v3), some (.int v4), some (.int q.1), some (.int q.2.1), J.1] [] (mH M q.2.2 h0)) (fun (q : Int32 × mS) run => ∃ J : JV × JV × JV × JV × JV × JV × JV, run = ai_run G (d + 6) 252 158 [J.1.1, J.2.1.1, J.2.2.1.1, J.2.2.2.1.1, J.2.2.2.2.1.1, some (.int q.1), J.2.2.2.2.2.1.1, J.2.2.2.2.2.2.1] [] (mH M q.2 h0))
theorem Bfm_guests_b58 {G : ai_G} {d M : Nat} {h0 : ai_H} (v1 : Int32) (v2 : Int32) (v3 : Int32) (v4 : Int32) (b0 : Int32) (b1 : Int32) (b2 : mS) (J : JV) : Tj G (d + 6) 252 (Pfm_guests_b58 G d M h0 v1 v2 v3 v4) (some (.inl (b0, b1, b2))) 58 [some (.ref M), some (.int v1), some (.int v2), some (.int v3), some (.int v4), some (.int b0), some (.int b1), J.1] [] (mH M b2 h0) := tq_back J rfl rfl
theorem Efm_guests_b58 {G : ai_G} {d M : Nat} {h0 : ai_H} (v1 : Int32) (v2 : Int32) (v3 : Int32) (v4 : Int32) (b0 : Int32) (b1 : mS) (J : JV × JV × JV × JV × JV × JV × JV) : Tj G (d + 6) 252 (Pfm_guests_b58 G d M h0 v1 v2 v3 v4) (some (.inr (b0, b1))) 158 [J.1.1, J.2.1.1, J.2.2.1.1, J.2.2.2.1.1, J.2.2.2.2.1.1, some (.int b0), J.2.2.2.2.2.1.1, J.2.2.2.2.2.2.1] [] (mH M b1 h0) := tq_exit J rfl rfl
abbrev Pfm_guests_b70 (G : ai_G) (d M : Nat) (h0 : ai_H) (v1 : Int32) (v2 : Int32) (v3 : Int32) (v4 : Int32) (v6 : Int32) : (Int32 × Int32 × mS) ⊕ (Int32 × mS) → Option ai_R → Prop := Sum.elim (fun (q : Int32 × Int32 × mS) run => ∃ J : Unit, run = ai_run G (d + 6) 252 70 [some (.ref M), some (.int v1), some (.int v2), some (.int v3), some (.int v4), some (.int q.1), some (.int v6), some (.int q.2.1)] [] (mH M q.2.2 h0)) (fun (q : Int32 × mS) run => ∃ J : JV, run = ai_run G (d + 6) 252 152 [some (.ref M), some (.int v1), some (.int v2), some (.int v3), some (.int v4), some (.int q.1), some (.int v6), J.1] [] (mH M q.2 h0))
theorem Bfm_guests_b70 {G : ai_G} {d M : Nat} {h0 : ai_H} (v1 : Int32) (v2 : Int32) (v3 : Int32) (v4 : Int32) (v6 : Int32) (b0 : Int32) (b1 : Int32) (b2 : mS) (J : Unit) : Tj G (d + 6) 252 (Pfm_guests_b70 G d M h0 v1 v2 v3 v4 v6) (some (.inl (b0, b1, b2))) 70 [some (.ref M), some (.int v1), some (.int v2), some (.int v3), some (.int v4), some (.int b0), some (.int v6), some (.int b1)] [] (mH M b2 h0) := tq_back J rfl rfl
theorem Efm_guests_b70 {G : ai_G} {d M : Nat} {h0 : ai_H} (v1 : Int32) (v2 : Int32) (v3 : Int32) (v4 : Int32) (v6 : Int32) (b0 : Int32) (b1 : mS) (J : JV) : Tj G (d + 6) 252 (Pfm_guests_b70 G d M h0 v1 v2 v3 v4 v6) (some (.inr (b0, b1))) 152 [some (.ref M), some (.int v1), some (.int v2), some (.int v3), some (.int v4), some (.int b0), some (.int v6), J.1] [] (mH M b1 h0) := tq_exit J rfl rfl
theorem wfm_guests_b70 {G : ai_G} {d M : Nat} {h0 : ai_H} (v1 : Int32) (v2 : Int32) (v3 : Int32) (v4 : Int32) (v6 : Int32) (q : Int32 × Int32 × mS) (J : Unit) : Tj G (d + 6) 252 (Pfm_guests_b70 G d M h0 v1 v2 v3 v4 v6) (fm_guests_b70 v1 v2 v3 v4 v6 q) 70 [some (.ref M), some (.int v1), some (.int v2), some (.int v3), some (.int v4), some (.int q.1), some (.int v6), some (.int q.2.1)] [] (mH M q.2.2 h0) := by
  unfold fm_guests_b70
  refine tq_iload dX8_guests_70 rfl ?_
  refine tq_aload_n dX8_guests_72 rfl ?_
  refine tm_gi (k9 := 46) dX8_guests_73 rfl rfl ?_
  refine tq_icmp_ge dX8_guests_76 rfl ?_ ?_
  · exact Efm_guests_b70 _ _ _ _ _ _ _ ⟨some (.int q.2.1), rfl⟩
  · refine tq_iload_n dX8_guests_79 rfl ?_
    refine tq_iload dX8_guests_80 rfl ?_
    refine tq_ishr dX8_guests_82 ?_
    refine tq_iconst (v := 1) dX8_guests_83 (by decide) ?_
    refine tq_iand dX8_guests_84 ?_
    refine tq_if_eq dX8_guests_85 rfl ?_ ?_
    · refine tq_iinc (v := (q.2.1 + 1)) (L' := [_, _, _, _, _, _, _, _]) dX8_guests_146 rfl (Nat.le_of_ble_eq_true rfl) rfl rfl ?_
      refine tq_goto dX8_guests_149 rfl ?_
      exact Bfm_guests_b70 _ _ _ _ _ _ _ _ ()
    · refine tq_iload dX8_guests_88 rfl ?_
      refine tq_iload dX8_guests_90 rfl ?_
      refine tq_ishr dX8_guests_92 ?_
      refine tq_iconst (v := 1) dX8_guests_93 (by decide) ?_
      refine tq_iand dX8_guests_94 ?_
      refine tq_if_eq dX8_guests_95 rfl ?_ ?_
      · refine tq_iinc (v := (q.2.1 + 1)) (L' := [_, _, _, _, _, _, _, _]) dX8_guests_146 rfl (Nat.le_of_ble_eq_true rfl) rfl rfl ?_
        refine tq_goto dX8_guests_149 rfl ?_
        exact Bfm_guests_b70 _ _ _ _ _ _ _ _ ()
      · refine tq_aload_n dX8_guests_98 rfl ?_
        refine tq_iload_n dX8_guests_99 rfl ?_
        refine tq_iload_n dX8_guests_100 rfl ?_
        refine tq_iload_n dX8_guests_101 rfl ?_
        refine tq_iload dX8_guests_102 rfl ?_
        refine tq_iload dX8_guests_104 rfl ?_
        refine tq_iload dX8_guests_106 rfl ?_
        refine tm_c6_i dX8_guests_108 rfl rfl rfl (Nat.le_of_ble_eq_true rfl) (wfm_isRest (d := d + 3) _ _ _ _ _ _ _) (fun p108 => ?_)
        refine tq_if_ne dX8_guests_111 rfl ?_ ?_
        · refine tq_iload dX8_guests_117 rfl ?_
          refine tq_if_ne dX8_guests_119 rfl ?_ ?_
          · refine tq_iinc (v := (q.1 + 1)) (L' := [_, _, _, _, _, _, _, _]) dX8_guests_143 rfl (Nat.le_of_ble_eq_true rfl) rfl rfl ?_
            refine tq_iinc (v := (q.2.1 + 1)) (L' := [_, _, _, _, _, _, _, _]) dX8_guests_146 rfl (Nat.le_of_ble_eq_true rfl) rfl rfl ?_
            refine tq_goto dX8_guests_149 rfl ?_
            exact Bfm_guests_b70 _ _ _ _ _ _ _ _ ()
          · refine tq_aload_n dX8_guests_122 rfl ?_
            refine tm_ga (j := 26) dX8_guests_123 rfl rfl ?_
            refine tq_iconst (v := 0) dX8_guests_126 (by decide) ?_
            refine tq_iload dX8_guests_127 rfl ?_
            refine tm_ist dX8_guests_129 rfl (fun s129 => ?_)
            refine tq_aload_n dX8_guests_130 rfl ?_
            refine tm_ga (j := 26) dX8_guests_131 rfl rfl ?_
            refine tq_iconst (v := 1) dX8_guests_134 (by decide) ?_
            refine tq_iload dX8_guests_135 rfl ?_
            refine tm_ist dX8_guests_137 rfl (fun s137 => ?_)
            refine tq_aload_n dX8_guests_138 rfl ?_
            refine tq_iconst (v := 2) dX8_guests_139 (by decide) ?_
            refine tm_pi dX8_guests_140 rfl rfl (fun s140 => ?_)
            refine tq_iinc (v := (q.1 + 1)) (L' := [_, _, _, _, _, _, _, _]) dX8_guests_143 rfl (Nat.le_of_ble_eq_true rfl) rfl rfl ?_
            refine tq_iinc (v := (q.2.1 + 1)) (L' := [_, _, _, _, _, _, _, _]) dX8_guests_146 rfl (Nat.le_of_ble_eq_true rfl) rfl rfl ?_
            refine tq_goto dX8_guests_149 rfl ?_
            exact Bfm_guests_b70 _ _ _ _ _ _ _ _ ()
        · refine tq_goto dX8_guests_114 rfl ?_
          refine tq_iinc (v := (q.2.1 + 1)) (L' := [_, _, _, _, _, _, _, _]) dX8_guests_146 rfl (Nat.le_of_ble_eq_true rfl) rfl rfl ?_
          refine tq_goto dX8_guests_149 rfl ?_
          exact Bfm_guests_b70 _ _ _ _ _ _ _ _ ()
theorem Sfm_guests_b70 {G : ai_G} {d M : Nat} {h0 : ai_H} {α : Type} {P : α → Option ai_R → Prop} (v1 : Int32) (v2 : Int32) (v3 : Int32) (v4 : Int32) (v6 : Int32) (b0 : Int32) (b1 : Int32) (b2 : mS) (J : Unit) {r : (Int32 × mS) → Option α} (kk : ∀ (q : Int32 × mS) (J : JV), Tj G (d + 6) 252 P (r q) 152 [some (.ref M), some (.int v1), some (.int v2), some (.int v3), some (.int v4), some (.int q.1), some (.int v6), J.1] [] (mH M q.2 h0)) : Tj G (d + 6) 252 P ((lp (fm_guests_b70 v1 v2 v3 v4 v6) (b0, b1, b2)).bind r) 70 [some (.ref M), some (.int v1), some (.int v2), some (.int v3), some (.int v4), some (.int b0), some (.int v6), some (.int b1)] [] (mH M b2 h0) := tq_lp1 (J := J) (fun q J => wfm_guests_b70 v1 v2 v3 v4 v6 q J) rfl rfl kk
theorem wfm_guests_b58 {G : ai_G} {d M : Nat} {h0 : ai_H} (v1 : Int32) (v2 : Int32) (v3 : Int32) (v4 : Int32) (q : Int32 × Int32 × mS) (J : JV) : Tj G (d + 6) 252 (Pfm_guests_b58 G d M h0 v1 v2 v3 v4) (fm_guests_b58 v1 v2 v3 v4 q) 58 [some (.ref M), some (.int v1), some (.int v2), some (.int v3), some (.int v4), some (.int q.1), some (.int q.2.1), J.1] [] (mH M q.2.2 h0) := by
  unfold fm_guests_b58
  refine tq_iload dX8_guests_58 rfl ?_
  refine tq_aload_n dX8_guests_60 rfl ?_
  refine tm_gi (k9 := 46) dX8_guests_61 rfl rfl ?_
  refine tq_icmp_ge dX8_guests_64 rfl ?_ ?_
  · exact Efm_guests_b58 _ _ _ _ _ _ (⟨some (.ref M), rfl⟩, ⟨some (.int v1), rfl⟩, ⟨some (.int v2), rfl⟩, ⟨some (.int v3), rfl⟩, ⟨some (.int v4), rfl⟩, ⟨some (.int q.2.1), rfl⟩, J)
  · refine tq_iconst (v := 0) dX8_guests_67 (by decide) ?_
    refine tq_istore (L' := [_, _, _, _, _, _, _, _]) dX8_guests_68 (Nat.le_of_ble_eq_true rfl) rfl ?_
    refine Sfm_guests_b70 _ _ _ _ _ _ _ _ () (fun q70 J70 => ?_)
    refine tq_iinc (v := (q.2.1 + 1)) (L' := [_, _, _, _, _, _, _, _]) dX8_guests_152 rfl (Nat.le_of_ble_eq_true rfl) rfl rfl ?_
    refine tq_goto dX8_guests_155 rfl ?_
    exact Bfm_guests_b58 _ _ _ _ _ _ _ J70
theorem Sfm_guests_b58 {G : ai_G} {d M : Nat} {h0 : ai_H} {α : Type} {P : α → Option ai_R → Prop} (v1 : Int32) (v2 : Int32) (v3 : Int32) (v4 : Int32) (b0 : Int32) (b1 : Int32) (b2 : mS) (J : JV) {r : (Int32 × mS) → Option α} (kk : ∀ (q : Int32 × mS) (J : JV × JV × JV × JV × JV × JV × JV), Tj G (d + 6) 252 P (r q) 158 [J.1.1, J.2.1.1, J.2.2.1.1, J.2.2.2.1.1, J.2.2.2.2.1.1, some (.int q.1), J.2.2.2.2.2.1.1, J.2.2.2.2.2.2.1] [] (mH M q.2 h0)) : Tj G (d + 6) 252 P ((lp (fm_guests_b58 v1 v2 v3 v4) (b0, b1, b2)).bind r) 58 [some (.ref M), some (.int v1), some (.int v2), some (.int v3), some (.int v4), some (.int b0), some (.int b1), J.1] [] (mH M b2 h0) := tq_lp1 (J := J) (fun q J => wfm_guests_b58 v1 v2 v3 v4 q J) rfl rfl kk
theorem wfm_guests {G : ai_G} {d M : Nat} {h0 : ai_H} (s : mS) (v1 : Int32) (v2 : Int32) : ∀ r, fm_guests s v1 v2 = some r → (PmI M h0) r (ai_call G (d + 7) 252 [.ref M, .int v1, .int v2] (mH M s h0)) := by
  refine tq_meth (P := (PmI M h0)) (d := (d + 6)) (Nat.le_of_ble_eq_true rfl) ?_
  show Tj G (d + 6) 252 (PmI M h0) (fm_guests s v1 v2) 0 [some (.ref M), some (.int v1), some (.int v2), none, none, none, none, none] [] (mH M s h0)
  unfold fm_guests
  refine tq_aload_n dX8_guests_0 rfl ?_
  refine tq_iconst (v := 0) dX8_guests_1 (by decide) ?_
  refine tm_pi dX8_guests_2 rfl rfl (fun s2 => ?_)
  refine tq_aload_n dX8_guests_5 rfl ?_
  refine tq_iload_n dX8_guests_6 rfl ?_
  refine tm_c1_i dX8_guests_7 rfl rfl rfl (Nat.le_of_ble_eq_true rfl) (wfm_isBoard (d := d + 4) _ _) (fun p7 => ?_)
  refine tq_if_eq dX8_guests_10 rfl ?_ ?_
  · refine tq_iconst (v := (-1)) dX8_guests_26 (by decide) ?_
    exact tq_ireturn dX8_guests_27 rfl rfl
  · refine tq_aload_n dX8_guests_13 rfl ?_
    refine tq_iload_n dX8_guests_14 rfl ?_
    refine tm_c1_i dX8_guests_15 rfl rfl rfl (Nat.le_of_ble_eq_true rfl) (wfm_isBoard (d := d + 4) _ _) (fun p15 => ?_)
    refine tq_if_eq dX8_guests_18 rfl ?_ ?_
    · refine tq_iconst (v := (-1)) dX8_guests_26 (by decide) ?_
      exact tq_ireturn dX8_guests_27 rfl rfl
    · refine tq_iload_n dX8_guests_21 rfl ?_
      refine tq_iload_n dX8_guests_22 rfl ?_
      refine tq_icmp_ne dX8_guests_23 rfl ?_ ?_
      · refine tq_aload_n dX8_guests_28 rfl ?_
        refine tq_iload_n dX8_guests_29 rfl ?_
        refine tm_c1_I dX8_guests_30 rfl rfl rfl (Nat.le_of_ble_eq_true rfl) (wfm_landingsOf (d := d) _ _) (fun p30 => ?_)
        refine tq_istore_n (L' := [_, _, _, _, _, _, _, _]) dX8_guests_33 (Nat.le_of_ble_eq_true rfl) rfl ?_
        refine tq_aload_n dX8_guests_34 rfl ?_
        refine tq_iload_n dX8_guests_35 rfl ?_
        refine tm_c1_I dX8_guests_36 rfl rfl rfl (Nat.le_of_ble_eq_true rfl) (wfm_landingsOf (d := d) _ _) (fun p36 => ?_)
        refine tq_istore (L' := [_, _, _, _, _, _, _, _]) dX8_guests_39 (Nat.le_of_ble_eq_true rfl) rfl ?_
        refine tq_iload_n dX8_guests_41 rfl ?_
        refine tq_if_eq dX8_guests_42 rfl ?_ ?_
        · refine tq_iconst (v := (-1)) dX8_guests_50 (by decide) ?_
          exact tq_ireturn dX8_guests_51 rfl rfl
        · refine tq_iload dX8_guests_45 rfl ?_
          refine tq_if_ne dX8_guests_47 rfl ?_ ?_
          · refine tq_iconst (v := 0) dX8_guests_52 (by decide) ?_
            refine tq_istore (L' := [_, _, _, _, _, _, _, _]) dX8_guests_53 (Nat.le_of_ble_eq_true rfl) rfl ?_
            refine tq_iconst (v := 0) dX8_guests_55 (by decide) ?_
            refine tq_istore (L' := [_, _, _, _, _, _, _, _]) dX8_guests_56 (Nat.le_of_ble_eq_true rfl) rfl ?_
            refine Sfm_guests_b58 _ _ _ _ _ _ _ ⟨none, rfl⟩ (fun q58 J58 => ?_)
            refine tq_iload dX8_guests_158 rfl ?_
            exact tq_ireturn dX8_guests_160 rfl rfl
          · refine tq_iconst (v := (-1)) dX8_guests_50 (by decide) ?_
            exact tq_ireturn dX8_guests_51 rfl rfl
      · refine tq_iconst (v := (-1)) dX8_guests_26 (by decide) ?_
        exact tq_ireturn dX8_guests_27 rfl rfl
abbrev Pfm_singe_b16 (G : ai_G) (d M : Nat) (h0 : ai_H) (v1 : Int32) : (Int32 × mS) ⊕ (mS ⊕ (Int32 × mS)) → Option ai_R → Prop := Sum.elim (fun (q : Int32 × mS) run => ∃ J : JV, run = ai_run G (d + 4) 254 16 [some (.ref M), some (.int v1), some (.int q.1), J.1] [] (mH M q.2 h0)) (Sum.elim (fun (q : mS) run => ∃ J : JV × JV × JV × JV, run = ai_run G (d + 4) 254 56 [J.1.1, J.2.1.1, J.2.2.1.1, J.2.2.2.1] [] (mH M q h0)) (PmI M h0))
theorem Bfm_singe_b16 {G : ai_G} {d M : Nat} {h0 : ai_H} (v1 : Int32) (b0 : Int32) (b1 : mS) (J : JV) : Tj G (d + 4) 254 (Pfm_singe_b16 G d M h0 v1) (some (.inl (b0, b1))) 16 [some (.ref M), some (.int v1), some (.int b0), J.1] [] (mH M b1 h0) := tq_back J rfl rfl
theorem Efm_singe_b16 {G : ai_G} {d M : Nat} {h0 : ai_H} (v1 : Int32) (b0 : mS) (J : JV × JV × JV × JV) : Tj G (d + 4) 254 (Pfm_singe_b16 G d M h0 v1) (some (.inr (.inl b0))) 56 [J.1.1, J.2.1.1, J.2.2.1.1, J.2.2.2.1] [] (mH M b0 h0) := tq_exit2 J rfl rfl
theorem wfm_singe_b16 {G : ai_G} {d M : Nat} {h0 : ai_H} (v1 : Int32) (q : Int32 × mS) (J : JV) : Tj G (d + 4) 254 (Pfm_singe_b16 G d M h0 v1) (fm_singe_b16 v1 q) 16 [some (.ref M), some (.int v1), some (.int q.1), J.1] [] (mH M q.2 h0) := by
  unfold fm_singe_b16
  refine tq_iload_n dX8_singe_16 rfl ?_
  refine tq_aload_n dX8_singe_17 rfl ?_
  refine tq_iload_n dX8_singe_18 rfl ?_
  refine tm_c1_i dX8_singe_19 rfl rfl rfl (Nat.le_of_ble_eq_true rfl) (wfm_leftOf (d := d + 3) _ _) (fun p19 => ?_)
  refine tq_icmp_gt dX8_singe_22 rfl ?_ ?_
  · exact Efm_singe_b16 _ _ (⟨some (.ref M), rfl⟩, ⟨some (.int v1), rfl⟩, ⟨some (.int q.1), rfl⟩, J)
  · refine tq_aload_n dX8_singe_25 rfl ?_
    refine tq_iload_n dX8_singe_26 rfl ?_
    refine tq_iconst (v := 0) dX8_singe_27 (by decide) ?_
    refine tq_iconst (v := 1) dX8_singe_28 (by decide) ?_
    refine tq_iconst (v := 1) dX8_singe_29 (by decide) ?_
    refine tm_c4_I dX8_singe_30 rfl rfl rfl (Nat.le_of_ble_eq_true rfl) (wfm_goStroke (d := d) _ _ _ _ _) (fun p30 => ?_)
    refine tq_istore_n (L' := [_, _, _, _]) dX8_singe_33 (Nat.le_of_ble_eq_true rfl) rfl ?_
    refine tq_iload_n dX8_singe_34 rfl ?_
    refine tq_iconst (v := 2) dX8_singe_35 (by decide) ?_
    refine tq_irem dX8_singe_36 (fun x36 => ?_)
    refine tq_iconst (v := 1) dX8_singe_37 (by decide) ?_
    refine tq_icmp_ne dX8_singe_38 rfl ?_ ?_
    · refine tq_iload_n dX8_singe_43 rfl ?_
      refine tq_iconst (v := 2) dX8_singe_44 (by decide) ?_
      refine tq_icmp_ne dX8_singe_45 rfl ?_ ?_
      · refine tq_iinc (v := (q.1 + 1)) (L' := [_, _, _, _]) dX8_singe_50 rfl (Nat.le_of_ble_eq_true rfl) rfl rfl ?_
        refine tq_goto dX8_singe_53 rfl ?_
        exact Bfm_singe_b16 _ _ _ ⟨some (.int p30.1), rfl⟩
      · refine tq_iload_n dX8_singe_48 rfl ?_
        exact tq_ireturn dX8_singe_49 rfl rfl
    · refine tq_iconst (v := (-1)) dX8_singe_41 (by decide) ?_
      exact tq_ireturn dX8_singe_42 rfl rfl
theorem Sfm_singe_b16 {G : ai_G} {d M : Nat} {h0 : ai_H} {α : Type} {P : α → Option ai_R → Prop} (v1 : Int32) (b0 : Int32) (b1 : mS) (J : JV) {r : mS → Option α} {r2 : (Int32 × mS) → Option α} (k2 : ∀ v run, (PmI M h0) v run → ∀ a, r2 v = some a → P a run) (kk : ∀ (q : mS) (J : JV × JV × JV × JV), Tj G (d + 4) 254 P (r q) 56 [J.1.1, J.2.1.1, J.2.2.1.1, J.2.2.2.1] [] (mH M q h0)) : Tj G (d + 4) 254 P ((lp (fm_singe_b16 v1) (b0, b1)).bind (Sum.elim r r2)) 16 [some (.ref M), some (.int v1), some (.int b0), J.1] [] (mH M b1 h0) := tq_lp2 (J := J) (fun q J => wfm_singe_b16 v1 q J) rfl rfl k2 kk
theorem wfm_singe {G : ai_G} {d M : Nat} {h0 : ai_H} (s : mS) (v1 : Int32) : ∀ r, fm_singe s v1 = some r → (PmI M h0) r (ai_call G (d + 5) 254 [.ref M, .int v1] (mH M s h0)) := by
  refine tq_meth (P := (PmI M h0)) (d := (d + 4)) (Nat.le_of_ble_eq_true rfl) ?_
  show Tj G (d + 4) 254 (PmI M h0) (fm_singe s v1) 0 [some (.ref M), some (.int v1), none, none] [] (mH M s h0)
  unfold fm_singe
  refine tq_aload_n dX8_singe_0 rfl ?_
  refine tq_iload_n dX8_singe_1 rfl ?_
  refine tm_c1_i dX8_singe_2 rfl rfl rfl (Nat.le_of_ble_eq_true rfl) (wfm_isBoard (d := d + 2) _ _) (fun p2 => ?_)
  refine tq_if_ne dX8_singe_5 rfl ?_ ?_
  · refine tq_aload_n dX8_singe_10 rfl ?_
    refine tm_c0_V dX8_singe_11 rfl rfl rfl (Nat.le_of_ble_eq_true rfl) (wfm_fill (d := d + 3) _) (fun p11 => ?_)
    refine tq_iconst (v := 1) dX8_singe_14 (by decide) ?_
    refine tq_istore_n (L' := [_, _, _, _]) dX8_singe_15 (Nat.le_of_ble_eq_true rfl) rfl ?_
    refine Sfm_singe_b16 _ _ _ ⟨none, rfl⟩ (fun v run hv a ha => by cases ha; exact hv) (fun q16 J16 => ?_)
    refine tq_iconst (v := (-1)) dX8_singe_56 (by decide) ?_
    exact tq_ireturn dX8_singe_57 rfl rfl
  · refine tq_iconst (v := (-1)) dX8_singe_8 (by decide) ?_
    exact tq_ireturn dX8_singe_9 rfl rfl
abbrev Pfm_landsBy_b10 (G : ai_G) (d M : Nat) (h0 : ai_H) (v1 : Int32) (v2 : Int32) (v3 : Int32) : (Int32 × Int32 × mS) ⊕ (Int32 × mS) → Option ai_R → Prop := Sum.elim (fun (q : Int32 × Int32 × mS) run => ∃ J : Unit, run = ai_run G (d + 4) 258 10 [some (.ref M), some (.int v1), some (.int v2), some (.int v3), some (.int q.1), some (.int q.2.1)] [] (mH M q.2.2 h0)) (fun (q : Int32 × mS) run => ∃ J : JV × JV, run = ai_run G (d + 4) 258 58 [some (.ref M), some (.int v1), some (.int v2), J.1.1, some (.int q.1), J.2.1] [] (mH M q.2 h0))
theorem Bfm_landsBy_b10 {G : ai_G} {d M : Nat} {h0 : ai_H} (v1 : Int32) (v2 : Int32) (v3 : Int32) (b0 : Int32) (b1 : Int32) (b2 : mS) (J : Unit) : Tj G (d + 4) 258 (Pfm_landsBy_b10 G d M h0 v1 v2 v3) (some (.inl (b0, b1, b2))) 10 [some (.ref M), some (.int v1), some (.int v2), some (.int v3), some (.int b0), some (.int b1)] [] (mH M b2 h0) := tq_back J rfl rfl
theorem Efm_landsBy_b10 {G : ai_G} {d M : Nat} {h0 : ai_H} (v1 : Int32) (v2 : Int32) (v3 : Int32) (b0 : Int32) (b1 : mS) (J : JV × JV) : Tj G (d + 4) 258 (Pfm_landsBy_b10 G d M h0 v1 v2 v3) (some (.inr (b0, b1))) 58 [some (.ref M), some (.int v1), some (.int v2), J.1.1, some (.int b0), J.2.1] [] (mH M b1 h0) := tq_exit J rfl rfl
theorem wfm_landsBy_b10 {G : ai_G} {d M : Nat} {h0 : ai_H} (v1 : Int32) (v2 : Int32) (v3 : Int32) (q : Int32 × Int32 × mS) (J : Unit) : Tj G (d + 4) 258 (Pfm_landsBy_b10 G d M h0 v1 v2 v3) (fm_landsBy_b10 v1 v2 v3 q) 10 [some (.ref M), some (.int v1), some (.int v2), some (.int v3), some (.int q.1), some (.int q.2.1)] [] (mH M q.2.2 h0) := by
  unfold fm_landsBy_b10
  refine tq_iload dX8_landsBy_10 rfl ?_
  refine tq_aload_n dX8_landsBy_12 rfl ?_
  refine tq_iload_n dX8_landsBy_13 rfl ?_
  refine tm_c1_i dX8_landsBy_14 rfl rfl rfl (Nat.le_of_ble_eq_true rfl) (wfm_leftOf (d := d + 3) _ _) (fun p14 => ?_)
  refine tq_icmp_ge dX8_landsBy_17 rfl ?_ ?_
  · exact Efm_landsBy_b10 _ _ _ _ _ (⟨some (.int v3), rfl⟩, ⟨some (.int q.2.1), rfl⟩)
  · refine tq_iload dX8_landsBy_20 rfl ?_
    refine tq_if_eq dX8_landsBy_22 rfl ?_ ?_
    · exact Efm_landsBy_b10 _ _ _ _ _ (⟨some (.int v3), rfl⟩, ⟨some (.int q.2.1), rfl⟩)
    · refine tq_aload_n dX8_landsBy_25 rfl ?_
      refine tq_iload_n dX8_landsBy_26 rfl ?_
      refine tq_iconst (v := 0) dX8_landsBy_27 (by decide) ?_
      refine tq_iconst (v := 1) dX8_landsBy_28 (by decide) ?_
      refine tq_iconst (v := 1) dX8_landsBy_29 (by decide) ?_
      refine tq_iload_n dX8_landsBy_30 rfl ?_
      refine tq_iload dX8_landsBy_31 rfl ?_
      refine tq_ishr dX8_landsBy_33 ?_
      refine tq_iconst (v := 1) dX8_landsBy_34 (by decide) ?_
      refine tq_iand dX8_landsBy_35 ?_
      refine tq_iadd dX8_landsBy_36 ?_
      refine tm_c4_I dX8_landsBy_37 rfl rfl rfl (Nat.le_of_ble_eq_true rfl) (wfm_goStroke (d := d) _ _ _ _ _) (fun p37 => ?_)
      refine tq_iconst (v := 2) dX8_landsBy_40 (by decide) ?_
      refine tq_irem dX8_landsBy_41 (fun x41 => ?_)
      refine tq_if_ne dX8_landsBy_42 rfl ?_ ?_
      · refine tq_iconst (v := 0) dX8_landsBy_49 (by decide) ?_
        refine tq_istore (L' := [_, _, _, _, _, _]) dX8_landsBy_50 (Nat.le_of_ble_eq_true rfl) rfl ?_
        refine tq_iinc (v := (q.2.1 + 1)) (L' := [_, _, _, _, _, _]) dX8_landsBy_52 rfl (Nat.le_of_ble_eq_true rfl) rfl rfl ?_
        refine tq_goto dX8_landsBy_55 rfl ?_
        exact Bfm_landsBy_b10 _ _ _ _ _ _ ()
      · refine tq_iconst (v := 1) dX8_landsBy_45 (by decide) ?_
        refine tq_goto dX8_landsBy_46 rfl ?_
        refine tq_istore (L' := [_, _, _, _, _, _]) dX8_landsBy_50 (Nat.le_of_ble_eq_true rfl) rfl ?_
        refine tq_iinc (v := (q.2.1 + 1)) (L' := [_, _, _, _, _, _]) dX8_landsBy_52 rfl (Nat.le_of_ble_eq_true rfl) rfl rfl ?_
        refine tq_goto dX8_landsBy_55 rfl ?_
        exact Bfm_landsBy_b10 _ _ _ _ _ _ ()
theorem Sfm_landsBy_b10 {G : ai_G} {d M : Nat} {h0 : ai_H} {α : Type} {P : α → Option ai_R → Prop} (v1 : Int32) (v2 : Int32) (v3 : Int32) (b0 : Int32) (b1 : Int32) (b2 : mS) (J : Unit) {r : (Int32 × mS) → Option α} (kk : ∀ (q : Int32 × mS) (J : JV × JV), Tj G (d + 4) 258 P (r q) 58 [some (.ref M), some (.int v1), some (.int v2), J.1.1, some (.int q.1), J.2.1] [] (mH M q.2 h0)) : Tj G (d + 4) 258 P ((lp (fm_landsBy_b10 v1 v2 v3) (b0, b1, b2)).bind r) 10 [some (.ref M), some (.int v1), some (.int v2), some (.int v3), some (.int b0), some (.int b1)] [] (mH M b2 h0) := tq_lp1 (J := J) (fun q J => wfm_landsBy_b10 v1 v2 v3 q J) rfl rfl kk
theorem wfm_landsBy_j58 {G : ai_G} {d M : Nat} {h0 : ai_H} (j3 : JV) (j5 : JV)   (s : mS) (v1 : Int32) (v2 : Int32) (v4 : Int32): Tj G (d + 4) 258 (PmI M h0) (fm_landsBy_j58 s v1 v2 v4) 58 [some (.ref M), some (.int v1), some (.int v2), j3.1, some (.int v4), j5.1] [] (mH M s h0) := by
  unfold fm_landsBy_j58
  refine tq_iload dX8_landsBy_58 rfl ?_
  refine tq_if_eq dX8_landsBy_60 rfl ?_ ?_
  · refine tq_iconst (v := 0) dX8_landsBy_77 (by decide) ?_
    exact tq_ireturn dX8_landsBy_78 (by decide) rfl
  · refine tq_aload_n dX8_landsBy_63 rfl ?_
    refine tm_ga (j := 23) dX8_landsBy_64 rfl rfl ?_
    refine tq_iload_n dX8_landsBy_67 rfl ?_
    refine tm_ild dX8_landsBy_68 rfl (fun x68 => ?_)
    refine tq_iload_n dX8_landsBy_69 rfl ?_
    refine tq_icmp_ne dX8_landsBy_70 rfl ?_ ?_
    · refine tq_iconst (v := 0) dX8_landsBy_77 (by decide) ?_
      exact tq_ireturn dX8_landsBy_78 (by decide) rfl
    · refine tq_iconst (v := 1) dX8_landsBy_73 (by decide) ?_
      refine tq_goto dX8_landsBy_74 rfl ?_
      exact tq_ireturn dX8_landsBy_78 (by decide) rfl
theorem wfm_landsBy {G : ai_G} {d M : Nat} {h0 : ai_H} (s : mS) (v1 : Int32) (v2 : Int32) (v3 : Int32) : ∀ r, fm_landsBy s v1 v2 v3 = some r → (PmI M h0) r (ai_call G (d + 5) 258 [.ref M, .int v1, .int v2, .int v3] (mH M s h0)) := by
  refine tq_meth (P := (PmI M h0)) (d := (d + 4)) (Nat.le_of_ble_eq_true rfl) ?_
  show Tj G (d + 4) 258 (PmI M h0) (fm_landsBy s v1 v2 v3) 0 [some (.ref M), some (.int v1), some (.int v2), some (.int v3), none, none] [] (mH M s h0)
  unfold fm_landsBy
  refine tq_aload_n dX8_landsBy_0 rfl ?_
  refine tm_c0_V dX8_landsBy_1 rfl rfl rfl (Nat.le_of_ble_eq_true rfl) (wfm_fill (d := d + 3) _) (fun p1 => ?_)
  refine tq_iconst (v := 1) dX8_landsBy_4 (by decide) ?_
  refine tq_istore (L' := [_, _, _, _, _, _]) dX8_landsBy_5 (Nat.le_of_ble_eq_true rfl) rfl ?_
  refine tq_iconst (v := 0) dX8_landsBy_7 (by decide) ?_
  refine tq_istore (L' := [_, _, _, _, _, _]) dX8_landsBy_8 (Nat.le_of_ble_eq_true rfl) rfl ?_
  refine Sfm_landsBy_b10 _ _ _ _ _ _ () (fun q10 J10 => ?_)
  exact wfm_landsBy_j58 J10.1 J10.2 _ _ _ _
abbrev Pfm_divisor_b4 (G : ai_G) (d : Nat) (h : ai_H)  : (Int32 × Int32) ⊕ Int32 → Option ai_R → Prop := Sum.elim (fun (q : Int32 × Int32) run => ∃ J : JV × JV × JV, run = ai_run G d 259 4 [J.1.1, J.2.1.1, some (.int q.1), some (.int q.2), J.2.2.1] [] h) (fun (q : Int32) run => ∃ J : JV × JV × JV × JV, run = ai_run G d 259 21 [J.1.1, J.2.1.1, some (.int q), J.2.2.1.1, J.2.2.2.1] [] h)
theorem Bfm_divisor_b4 {G : ai_G} {d : Nat} {h : ai_H}  (b0 : Int32) (b1 : Int32) (J : JV × JV × JV) : Tj G d 259 (Pfm_divisor_b4 G d h) (some (.inl (b0, b1))) 4 [J.1.1, J.2.1.1, some (.int b0), some (.int b1), J.2.2.1] [] h := tq_back J rfl rfl
theorem Efm_divisor_b4 {G : ai_G} {d : Nat} {h : ai_H}  (b0 : Int32) (J : JV × JV × JV × JV) : Tj G d 259 (Pfm_divisor_b4 G d h) (some (.inr b0)) 21 [J.1.1, J.2.1.1, some (.int b0), J.2.2.1.1, J.2.2.2.1] [] h := tq_exit J rfl rfl
theorem wfm_divisor_b4 {G : ai_G} {d : Nat} {h : ai_H}  (q : Int32 × Int32) (J : JV × JV × JV) : Tj G d 259 (Pfm_divisor_b4 G d h) (fm_divisor_b4 q) 4 [J.1.1, J.2.1.1, some (.int q.1), some (.int q.2), J.2.2.1] [] h := by
  unfold fm_divisor_b4
  refine tq_iload_n dX8_divisor_4 rfl ?_
  refine tq_if_le dX8_divisor_5 rfl ?_ ?_
  · exact Efm_divisor_b4 _ (J.1, J.2.1, ⟨some (.int q.2), rfl⟩, J.2.2)
  · refine tq_iload_n dX8_divisor_8 rfl ?_
    refine tq_iload_n dX8_divisor_9 rfl ?_
    refine tq_irem dX8_divisor_10 (fun x10 => ?_)
    refine tq_istore (L' := [_, _, _, _, _]) dX8_divisor_11 (Nat.le_of_ble_eq_true rfl) rfl ?_
    refine tq_iload_n dX8_divisor_13 rfl ?_
    refine tq_istore_n (L' := [_, _, _, _, _]) dX8_divisor_14 (Nat.le_of_ble_eq_true rfl) (st1_jv (i := 1) (j := J.2.1) rfl rfl) ?_
    refine tq_iload dX8_divisor_15 rfl ?_
    refine tq_istore_n (L' := [_, _, _, _, _]) dX8_divisor_17 (Nat.le_of_ble_eq_true rfl) rfl ?_
    refine tq_goto dX8_divisor_18 rfl ?_
    exact Bfm_divisor_b4 _ _ (J.1, J.2.1, ⟨some (.int x10), rfl⟩)
theorem Sfm_divisor_b4 {G : ai_G} {d : Nat} {h : ai_H} {α : Type} {P : α → Option ai_R → Prop}  (b0 : Int32) (b1 : Int32) (J : JV × JV × JV) {r : Int32 → Option α} (kk : ∀ (q : Int32) (J : JV × JV × JV × JV), Tj G d 259 P (r q) 21 [J.1.1, J.2.1.1, some (.int q), J.2.2.1.1, J.2.2.2.1] [] h) : Tj G d 259 P ((lp fm_divisor_b4 (b0, b1)).bind r) 4 [J.1.1, J.2.1.1, some (.int b0), some (.int b1), J.2.2.1] [] h := tq_lp1 (J := J) (fun q J => wfm_divisor_b4  q J) rfl rfl kk
theorem wfm_divisor {G : ai_G} {d : Nat} {h : ai_H} (v0 : Int32) (v1 : Int32) : ∀ r, fm_divisor v0 v1 = some r → (Pi h) r (ai_call G (d + 1) 259 [.int v0, .int v1] h) := by
  refine tq_meth (P := (Pi h)) (d := d) (Nat.le_of_ble_eq_true rfl) ?_
  show Tj G d 259 (Pi h) (fm_divisor v0 v1) 0 [some (.int v0), some (.int v1), none, none, none] [] h
  unfold fm_divisor
  refine tq_iload_n dX8_divisor_0 rfl ?_
  refine tq_istore_n (L' := [_, _, _, _, _]) dX8_divisor_1 (Nat.le_of_ble_eq_true rfl) rfl ?_
  refine tq_iload_n dX8_divisor_2 rfl ?_
  refine tq_istore_n (L' := [_, _, _, _, _]) dX8_divisor_3 (Nat.le_of_ble_eq_true rfl) rfl ?_
  refine Sfm_divisor_b4 _ _ (⟨some (.int v0), rfl⟩, ⟨some (.int v1), rfl⟩, ⟨none, rfl⟩) (fun q4 J4 => ?_)
  refine tq_iload_n dX8_divisor_21 rfl ?_
  exact tq_ireturn dX8_divisor_22 rfl rfl
abbrev Pfm_odds_b55 (G : ai_G) (d M : Nat) (h0 : ai_H) (v1 : Int32) (v2 : Int32) (v3 : Int32) (v4 : Int32) : (Int32 × Int32 × mS) ⊕ (Int32 × mS) → Option ai_R → Prop := Sum.elim (fun (q : Int32 × Int32 × mS) run => ∃ J : JV, run = ai_run G (d + 5) 260 55 [some (.ref M), some (.int v1), some (.int v2), some (.int v3), some (.int v4), some (.int q.1), some (.int q.2.1), J.1] [] (mH M q.2.2 h0)) (fun (q : Int32 × mS) run => ∃ J : JV × JV × JV × JV × JV, run = ai_run G (d + 5) 260 117 [J.1.1, J.2.1.1, J.2.2.1.1, some (.int v3), some (.int v4), some (.int q.1), J.2.2.2.1.1, J.2.2.2.2.1] [] (mH M q.2 h0))
theorem Bfm_odds_b55 {G : ai_G} {d M : Nat} {h0 : ai_H} (v1 : Int32) (v2 : Int32) (v3 : Int32) (v4 : Int32) (b0 : Int32) (b1 : Int32) (b2 : mS) (J : JV) : Tj G (d + 5) 260 (Pfm_odds_b55 G d M h0 v1 v2 v3 v4) (some (.inl (b0, b1, b2))) 55 [some (.ref M), some (.int v1), some (.int v2), some (.int v3), some (.int v4), some (.int b0), some (.int b1), J.1] [] (mH M b2 h0) := tq_back J rfl rfl
theorem Efm_odds_b55 {G : ai_G} {d M : Nat} {h0 : ai_H} (v1 : Int32) (v2 : Int32) (v3 : Int32) (v4 : Int32) (b0 : Int32) (b1 : mS) (J : JV × JV × JV × JV × JV) : Tj G (d + 5) 260 (Pfm_odds_b55 G d M h0 v1 v2 v3 v4) (some (.inr (b0, b1))) 117 [J.1.1, J.2.1.1, J.2.2.1.1, some (.int v3), some (.int v4), some (.int b0), J.2.2.2.1.1, J.2.2.2.2.1] [] (mH M b1 h0) := tq_exit J rfl rfl
theorem wfm_odds_b55 {G : ai_G} {d M : Nat} {h0 : ai_H} (v1 : Int32) (v2 : Int32) (v3 : Int32) (v4 : Int32) (q : Int32 × Int32 × mS) (J : JV) : Tj G (d + 5) 260 (Pfm_odds_b55 G d M h0 v1 v2 v3 v4) (fm_odds_b55 v1 v2 v3 v4 q) 55 [some (.ref M), some (.int v1), some (.int v2), some (.int v3), some (.int v4), some (.int q.1), some (.int q.2.1), J.1] [] (mH M q.2.2 h0) := by
  unfold fm_odds_b55
  refine tq_iload dX8_odds_55 rfl ?_
  refine tq_iconst (v := 1) dX8_odds_57 (by decide) ?_
  refine tq_iload dX8_odds_58 rfl ?_
  refine tq_ishl dX8_odds_60 ?_
  refine tq_icmp_ge dX8_odds_61 rfl ?_ ?_
  · exact Efm_odds_b55 _ _ _ _ _ _ (⟨some (.ref M), rfl⟩, ⟨some (.int v1), rfl⟩, ⟨some (.int v2), rfl⟩, ⟨some (.int q.2.1), rfl⟩, J)
  · refine tq_aload_n dX8_odds_64 rfl ?_
    refine tq_iload_n dX8_odds_65 rfl ?_
    refine tq_iload_n dX8_odds_66 rfl ?_
    refine tq_iload dX8_odds_67 rfl ?_
    refine tm_c3_I dX8_odds_69 rfl rfl rfl (Nat.le_of_ble_eq_true rfl) (wfm_landsBy (d := d) _ _ _ _) (fun p69 => ?_)
    refine tq_if_eq dX8_odds_72 rfl ?_ ?_
    · refine tq_iinc (v := (q.2.1 + 1)) (L' := [_, _, _, _, _, _, _, _]) dX8_odds_111 rfl (Nat.le_of_ble_eq_true rfl) rfl rfl ?_
      refine tq_goto dX8_odds_114 rfl ?_
      exact Bfm_odds_b55 _ _ _ _ _ _ _ J
    · refine tq_iload dX8_odds_75 rfl ?_
      refine tq_aload_n dX8_odds_77 rfl ?_
      refine tm_gi (k9 := 50) dX8_odds_78 rfl rfl ?_
      refine tq_iload dX8_odds_81 rfl ?_
      refine ts_c1_i dX8_odds_83 rfl rfl rfl (Nat.le_of_ble_eq_true rfl) (wfm_members (d := d + 4) _) (fun p83 => ?_)
      refine ts_c2_i dX8_odds_86 rfl rfl rfl (Nat.le_of_ble_eq_true rfl) (wfm_power (d := d + 4) _ _) (fun p86 => ?_)
      refine tq_bipush (v := 100) dX8_odds_89 (by decide) ?_
      refine tq_aload_n dX8_odds_91 rfl ?_
      refine tm_gi (k9 := 50) dX8_odds_92 rfl rfl ?_
      refine tq_isub dX8_odds_95 ?_
      refine tq_iload dX8_odds_96 rfl ?_
      refine tq_iload dX8_odds_98 rfl ?_
      refine ts_c1_i dX8_odds_100 rfl rfl rfl (Nat.le_of_ble_eq_true rfl) (wfm_members (d := d + 4) _) (fun p100 => ?_)
      refine tq_isub dX8_odds_103 ?_
      refine ts_c2_i dX8_odds_104 rfl rfl rfl (Nat.le_of_ble_eq_true rfl) (wfm_power (d := d + 4) _ _) (fun p104 => ?_)
      refine tq_imul dX8_odds_107 ?_
      refine tq_iadd dX8_odds_108 ?_
      refine tq_istore (L' := [_, _, _, _, _, _, _, _]) dX8_odds_109 (Nat.le_of_ble_eq_true rfl) rfl ?_
      refine tq_iinc (v := (q.2.1 + 1)) (L' := [_, _, _, _, _, _, _, _]) dX8_odds_111 rfl (Nat.le_of_ble_eq_true rfl) rfl rfl ?_
      refine tq_goto dX8_odds_114 rfl ?_
      exact Bfm_odds_b55 _ _ _ _ _ _ _ J
theorem Sfm_odds_b55 {G : ai_G} {d M : Nat} {h0 : ai_H} {α : Type} {P : α → Option ai_R → Prop} (v1 : Int32) (v2 : Int32) (v3 : Int32) (v4 : Int32) (b0 : Int32) (b1 : Int32) (b2 : mS) (J : JV) {r : (Int32 × mS) → Option α} (kk : ∀ (q : Int32 × mS) (J : JV × JV × JV × JV × JV), Tj G (d + 5) 260 P (r q) 117 [J.1.1, J.2.1.1, J.2.2.1.1, some (.int v3), some (.int v4), some (.int q.1), J.2.2.2.1.1, J.2.2.2.2.1] [] (mH M q.2 h0)) : Tj G (d + 5) 260 P ((lp (fm_odds_b55 v1 v2 v3 v4) (b0, b1, b2)).bind r) 55 [some (.ref M), some (.int v1), some (.int v2), some (.int v3), some (.int v4), some (.int b0), some (.int b1), J.1] [] (mH M b2 h0) := tq_lp1 (J := J) (fun q J => wfm_odds_b55 v1 v2 v3 v4 q J) rfl rfl kk
theorem wfm_odds {G : ai_G} {d M : Nat} {h0 : ai_H} (s : mS) (v1 : Int32) (v2 : Int32) (v3 : Int32) : ∀ r, fm_odds s v1 v2 v3 = some r → (PmI M h0) r (ai_call G (d + 6) 260 [.ref M, .int v1, .int v2, .int v3] (mH M s h0)) := by
  refine tq_meth (P := (PmI M h0)) (d := (d + 5)) (Nat.le_of_ble_eq_true rfl) ?_
  show Tj G (d + 5) 260 (PmI M h0) (fm_odds s v1 v2 v3) 0 [some (.ref M), some (.int v1), some (.int v2), some (.int v3), none, none, none, none] [] (mH M s h0)
  unfold fm_odds
  refine tq_aload_n dX8_odds_0 rfl ?_
  refine tq_iload_n dX8_odds_1 rfl ?_
  refine tm_c1_i dX8_odds_2 rfl rfl rfl (Nat.le_of_ble_eq_true rfl) (wfm_isBoard (d := d + 3) _ _) (fun p2 => ?_)
  refine tq_if_eq dX8_odds_5 rfl ?_ ?_
  · refine tq_iconst (v := (-1)) dX8_odds_40 (by decide) ?_
    exact tq_ireturn dX8_odds_41 rfl rfl
  · refine tq_aload_n dX8_odds_8 rfl ?_
    refine tq_iload_n dX8_odds_9 rfl ?_
    refine tm_c1_i dX8_odds_10 rfl rfl rfl (Nat.le_of_ble_eq_true rfl) (wfm_leftOf (d := d + 4) _ _) (fun p10 => ?_)
    refine tq_iconst (v := 4) dX8_odds_13 (by decide) ?_
    refine tq_icmp_gt dX8_odds_14 rfl ?_ ?_
    · refine tq_iconst (v := (-1)) dX8_odds_40 (by decide) ?_
      exact tq_ireturn dX8_odds_41 rfl rfl
    · refine tq_iload_n dX8_odds_17 rfl ?_
      refine tq_iconst (v := 0) dX8_odds_18 (by decide) ?_
      refine tq_aload_n dX8_odds_19 rfl ?_
      refine tm_gi (k9 := 46) dX8_odds_20 rfl rfl ?_
      refine tq_iconst (v := 1) dX8_odds_23 (by decide) ?_
      refine tq_isub dX8_odds_24 ?_
      refine ts_c3_i dX8_odds_25 rfl rfl rfl (Nat.le_of_ble_eq_true rfl) (wfm_isIn (d := d + 4) _ _ _) (fun p25 => ?_)
      refine tq_if_eq dX8_odds_28 rfl ?_ ?_
      · refine tq_iconst (v := (-1)) dX8_odds_40 (by decide) ?_
        exact tq_ireturn dX8_odds_41 rfl rfl
      · refine tq_iload_n dX8_odds_31 rfl ?_
        refine tq_iconst (v := 0) dX8_odds_32 (by decide) ?_
        refine tq_iconst (v := 1) dX8_odds_33 (by decide) ?_
        refine ts_c3_i dX8_odds_34 rfl rfl rfl (Nat.le_of_ble_eq_true rfl) (wfm_isIn (d := d + 4) _ _ _) (fun p34 => ?_)
        refine tq_if_ne dX8_odds_37 rfl ?_ ?_
        · refine tq_aload_n dX8_odds_42 rfl ?_
          refine tq_iload_n dX8_odds_43 rfl ?_
          refine tm_c1_i dX8_odds_44 rfl rfl rfl (Nat.le_of_ble_eq_true rfl) (wfm_leftOf (d := d + 4) _ _) (fun p44 => ?_)
          refine tq_istore (L' := [_, _, _, _, _, _, _, _]) dX8_odds_47 (Nat.le_of_ble_eq_true rfl) rfl ?_
          refine tq_iconst (v := 0) dX8_odds_49 (by decide) ?_
          refine tq_istore (L' := [_, _, _, _, _, _, _, _]) dX8_odds_50 (Nat.le_of_ble_eq_true rfl) rfl ?_
          refine tq_iconst (v := 0) dX8_odds_52 (by decide) ?_
          refine tq_istore (L' := [_, _, _, _, _, _, _, _]) dX8_odds_53 (Nat.le_of_ble_eq_true rfl) rfl ?_
          refine Sfm_odds_b55 _ _ _ _ _ _ _ ⟨none, rfl⟩ (fun q55 J55 => ?_)
          refine tq_bipush (v := 100) dX8_odds_117 (by decide) ?_
          refine tq_iload dX8_odds_119 rfl ?_
          refine ts_c2_i dX8_odds_121 rfl rfl rfl (Nat.le_of_ble_eq_true rfl) (wfm_power (d := d + 4) _ _) (fun p121 => ?_)
          refine tq_istore (L' := [_, _, _, _, _, _, _, _]) dX8_odds_124 (Nat.le_of_ble_eq_true rfl) rfl ?_
          refine tq_iload dX8_odds_126 rfl ?_
          refine tq_iload dX8_odds_128 rfl ?_
          refine ts_c2_i dX8_odds_130 rfl rfl rfl (Nat.le_of_ble_eq_true rfl) (wfm_divisor (d := d + 4) _ _) (fun p130 => ?_)
          refine tq_istore (L' := [_, _, _, _, _, _, _, _]) dX8_odds_133 (Nat.le_of_ble_eq_true rfl) rfl ?_
          refine tq_iload_n dX8_odds_135 rfl ?_
          refine tq_if_ne dX8_odds_136 rfl ?_ ?_
          · refine tq_iload dX8_odds_147 rfl ?_
            refine tq_iload dX8_odds_149 rfl ?_
            refine tq_idiv dX8_odds_151 (fun x151 => ?_)
            exact tq_ireturn dX8_odds_152 rfl rfl
          · refine tq_iload dX8_odds_139 rfl ?_
            refine tq_iload dX8_odds_141 rfl ?_
            refine tq_idiv dX8_odds_143 (fun x143 => ?_)
            refine tq_goto dX8_odds_144 rfl ?_
            exact tq_ireturn dX8_odds_152 rfl rfl
        · refine tq_iconst (v := (-1)) dX8_odds_40 (by decide) ?_
          exact tq_ireturn dX8_odds_41 rfl rfl
theorem wfm_over {G : ai_G} {d M : Nat} {h0 : ai_H} (s : mS) : ∀ r, fm_over s = some r → (PmI M h0) r (ai_call G (d + 3) 262 [.ref M] (mH M s h0)) := by
  refine tq_meth (P := (PmI M h0)) (d := (d + 2)) (Nat.le_of_ble_eq_true rfl) ?_
  show Tj G (d + 2) 262 (PmI M h0) (fm_over s) 0 [some (.ref M)] [] (mH M s h0)
  unfold fm_over
  refine tq_aload_n dX8_over_0 rfl ?_
  refine tm_c0_V dX8_over_1 rfl rfl rfl (Nat.le_of_ble_eq_true rfl) (wfm_fill (d := d + 1) _) (fun p1 => ?_)
  refine tq_aload_n dX8_over_4 rfl ?_
  refine tq_bipush (v := (-2)) dX8_over_5 (by decide) ?_
  refine tm_c1_i dX8_over_7 rfl rfl rfl (Nat.le_of_ble_eq_true rfl) (wfm_loadsAt (d := d) _ _) (fun p7 => ?_)
  exact tq_ireturn dX8_over_10 rfl rfl
theorem wfm_left {G : ai_G} {d M : Nat} {h0 : ai_H} (s : mS) : ∀ r, fm_left s = some r → (PmI M h0) r (ai_call G (d + 3) 264 [.ref M] (mH M s h0)) := by
  refine tq_meth (P := (PmI M h0)) (d := (d + 2)) (Nat.le_of_ble_eq_true rfl) ?_
  show Tj G (d + 2) 264 (PmI M h0) (fm_left s) 0 [some (.ref M)] [] (mH M s h0)
  unfold fm_left
  refine tq_aload_n dX8_left_0 rfl ?_
  refine tm_c0_V dX8_left_1 rfl rfl rfl (Nat.le_of_ble_eq_true rfl) (wfm_fill (d := d + 1) _) (fun p1 => ?_)
  refine tq_aload_n dX8_left_4 rfl ?_
  refine tq_iconst (v := 1) dX8_left_5 (by decide) ?_
  refine tq_aload_n dX8_left_6 rfl ?_
  refine tm_gi (k9 := 49) dX8_left_7 rfl rfl ?_
  refine tq_ishl dX8_left_10 ?_
  refine tq_iconst (v := 1) dX8_left_11 (by decide) ?_
  refine tq_isub dX8_left_12 ?_
  refine tq_aload_n dX8_left_13 rfl ?_
  refine tq_bipush (v := (-2)) dX8_left_14 (by decide) ?_
  refine tm_c1_i dX8_left_16 rfl rfl rfl (Nat.le_of_ble_eq_true rfl) (wfm_loadsAt (d := d) _ _) (fun p16 => ?_)
  refine tq_iconst (v := (-1)) dX8_left_19 (by decide) ?_
  refine tq_ixor dX8_left_20 ?_
  refine tq_iand dX8_left_21 ?_
  refine tm_c1_i dX8_left_22 rfl rfl rfl (Nat.le_of_ble_eq_true rfl) (wfm_wideOf (d := d + 1) _ _) (fun p22 => ?_)
  exact tq_ireturn dX8_left_25 rfl rfl
abbrev Pfm_pulled_b4 (G : ai_G) (d M : Nat) (h0 : ai_H) (s : mS) : (Int32 × Int32) ⊕ Int32 → Option ai_R → Prop := Sum.elim (fun (q : Int32 × Int32) run => ∃ J : Unit, run = ai_run G (d + 1) 266 4 [some (.ref M), some (.int q.1), some (.int q.2)] [] (mH M s h0)) (fun (q : Int32) run => ∃ J : JV × JV, run = ai_run G (d + 1) 266 52 [J.1.1, some (.int q), J.2.1] [] (mH M s h0))
theorem Bfm_pulled_b4 {G : ai_G} {d M : Nat} {h0 : ai_H} (s : mS) (b0 : Int32) (b1 : Int32) (J : Unit) : Tj G (d + 1) 266 (Pfm_pulled_b4 G d M h0 s) (some (.inl (b0, b1))) 4 [some (.ref M), some (.int b0), some (.int b1)] [] (mH M s h0) := tq_back J rfl rfl
theorem Efm_pulled_b4 {G : ai_G} {d M : Nat} {h0 : ai_H} (s : mS) (b0 : Int32) (J : JV × JV) : Tj G (d + 1) 266 (Pfm_pulled_b4 G d M h0 s) (some (.inr b0)) 52 [J.1.1, some (.int b0), J.2.1] [] (mH M s h0) := tq_exit J rfl rfl
theorem wfm_pulled_j39 {G : ai_G} {d M : Nat} {h0 : ai_H} (j1 : JV)   (s : mS) (v2 : Int32) (t0 : Int32) (t1 : Int32): Tj G (d + 1) 266 (Pfm_pulled_b4 G d M h0 s) (fm_pulled_j39 s v2 t0 t1) 39 [some (.ref M), j1.1, some (.int v2)] [.int t1, .int t0] (mH M s h0) := by
  unfold fm_pulled_j39
  refine ts_c1_i dX8_pulled_39 rfl rfl rfl (Nat.le_of_ble_eq_true rfl) (wfm_truth (d := d) _) (fun p39 => ?_)
  refine tq_iload_n dX8_pulled_42 rfl ?_
  refine tq_ishl dX8_pulled_43 ?_
  refine tq_ior dX8_pulled_44 ?_
  refine tq_istore_n (L' := [_, _, _]) dX8_pulled_45 (Nat.le_of_ble_eq_true rfl) rfl ?_
  refine tq_iinc (v := (v2 + 1)) (L' := [_, _, _]) dX8_pulled_46 rfl (Nat.le_of_ble_eq_true rfl) rfl rfl ?_
  refine tq_goto dX8_pulled_49 rfl ?_
  exact Bfm_pulled_b4 _ _ _ ()
theorem wfm_pulled_b4 {G : ai_G} {d M : Nat} {h0 : ai_H} (s : mS) (q : Int32 × Int32) (J : Unit) : Tj G (d + 1) 266 (Pfm_pulled_b4 G d M h0 s) (fm_pulled_b4 s q) 4 [some (.ref M), some (.int q.1), some (.int q.2)] [] (mH M s h0) := by
  unfold fm_pulled_b4
  refine tq_iload_n dX8_pulled_4 rfl ?_
  refine tq_aload_n dX8_pulled_5 rfl ?_
  refine tm_gi (k9 := 48) dX8_pulled_6 rfl rfl ?_
  refine tq_icmp_ge dX8_pulled_9 rfl ?_ ?_
  · exact Efm_pulled_b4 _ _ (⟨some (.ref M), rfl⟩, ⟨some (.int q.2), rfl⟩)
  · refine tq_iload_n dX8_pulled_12 rfl ?_
    refine tq_aload_n dX8_pulled_13 rfl ?_
    refine tq_aload_n dX8_pulled_14 rfl ?_
    refine tm_ga (j := 22) dX8_pulled_15 rfl rfl ?_
    refine tq_iload_n dX8_pulled_18 rfl ?_
    refine tm_ild dX8_pulled_19 rfl (fun x19 => ?_)
    refine tq_aload_n dX8_pulled_20 rfl ?_
    refine tm_ga (j := 22) dX8_pulled_21 rfl rfl ?_
    refine tq_iconst (v := 4) dX8_pulled_24 (by decide) ?_
    refine tq_iload_n dX8_pulled_25 rfl ?_
    refine tq_iadd dX8_pulled_26 ?_
    refine tm_ild dX8_pulled_27 rfl (fun x27 => ?_)
    refine tm_c2_i dX8_pulled_28 rfl rfl rfl (Nat.le_of_ble_eq_true rfl) (wfm_currentAt (d := d) _ _ _) (fun p28 => ?_)
    refine tq_if_le dX8_pulled_31 rfl ?_ ?_
    · refine tq_iconst (v := 0) dX8_pulled_38 (by decide) ?_
      exact wfm_pulled_j39 ⟨some (.int q.1), rfl⟩ _ _ _ _
    · refine tq_iconst (v := 1) dX8_pulled_34 (by decide) ?_
      refine tq_goto dX8_pulled_35 rfl ?_
      exact wfm_pulled_j39 ⟨some (.int q.1), rfl⟩ _ _ _ _
theorem Sfm_pulled_b4 {G : ai_G} {d M : Nat} {h0 : ai_H} {α : Type} {P : α → Option ai_R → Prop} (s : mS) (b0 : Int32) (b1 : Int32) (J : Unit) {r : Int32 → Option α} (kk : ∀ (q : Int32) (J : JV × JV), Tj G (d + 1) 266 P (r q) 52 [J.1.1, some (.int q), J.2.1] [] (mH M s h0)) : Tj G (d + 1) 266 P ((lp (fm_pulled_b4 s) (b0, b1)).bind r) 4 [some (.ref M), some (.int b0), some (.int b1)] [] (mH M s h0) := tq_lp1 (J := J) (fun q J => wfm_pulled_b4 s q J) rfl rfl kk
theorem wfm_pulled {G : ai_G} {d M : Nat} {h0 : ai_H} (s : mS) : ∀ r, fm_pulled s = some r → (Pi (mH M s h0)) r (ai_call G (d + 2) 266 [.ref M] (mH M s h0)) := by
  refine tq_meth (P := (Pi (mH M s h0))) (d := (d + 1)) (Nat.le_of_ble_eq_true rfl) ?_
  show Tj G (d + 1) 266 (Pi (mH M s h0)) (fm_pulled s) 0 [some (.ref M), none, none] [] (mH M s h0)
  unfold fm_pulled
  refine tq_iconst (v := 0) dX8_pulled_0 (by decide) ?_
  refine tq_istore_n (L' := [_, _, _]) dX8_pulled_1 (Nat.le_of_ble_eq_true rfl) rfl ?_
  refine tq_iconst (v := 0) dX8_pulled_2 (by decide) ?_
  refine tq_istore_n (L' := [_, _, _]) dX8_pulled_3 (Nat.le_of_ble_eq_true rfl) rfl ?_
  refine Sfm_pulled_b4 _ _ _ () (fun q4 J4 => ?_)
  refine tq_iload_n dX8_pulled_52 rfl ?_
  exact tq_ireturn dX8_pulled_53 rfl rfl
abbrev Pfm_hottest_b4 (G : ai_G) (d M : Nat) (h0 : ai_H) (s : mS) : (Int32 × Int32) ⊕ Int32 → Option ai_R → Prop := Sum.elim (fun (q : Int32 × Int32) run => ∃ J : Unit, run = ai_run G d 269 4 [some (.ref M), some (.int q.1), some (.int q.2)] [] (mH M s h0)) (fun (q : Int32) run => ∃ J : JV × JV, run = ai_run G d 269 59 [J.1.1, some (.int q), J.2.1] [] (mH M s h0))
theorem Bfm_hottest_b4 {G : ai_G} {d M : Nat} {h0 : ai_H} (s : mS) (b0 : Int32) (b1 : Int32) (J : Unit) : Tj G d 269 (Pfm_hottest_b4 G d M h0 s) (some (.inl (b0, b1))) 4 [some (.ref M), some (.int b0), some (.int b1)] [] (mH M s h0) := tq_back J rfl rfl
theorem Efm_hottest_b4 {G : ai_G} {d M : Nat} {h0 : ai_H} (s : mS) (b0 : Int32) (J : JV × JV) : Tj G d 269 (Pfm_hottest_b4 G d M h0 s) (some (.inr b0)) 59 [J.1.1, some (.int b0), J.2.1] [] (mH M s h0) := tq_exit J rfl rfl
theorem wfm_hottest_b4 {G : ai_G} {d M : Nat} {h0 : ai_H} (s : mS) (q : Int32 × Int32) (J : Unit) : Tj G d 269 (Pfm_hottest_b4 G d M h0 s) (fm_hottest_b4 s q) 4 [some (.ref M), some (.int q.1), some (.int q.2)] [] (mH M s h0) := by
  unfold fm_hottest_b4
  refine tq_iload_n dX8_hottest_4 rfl ?_
  refine tq_aload_n dX8_hottest_5 rfl ?_
  refine tm_gi (k9 := 48) dX8_hottest_6 rfl rfl ?_
  refine tq_icmp_ge dX8_hottest_9 rfl ?_ ?_
  · exact Efm_hottest_b4 _ _ (⟨some (.ref M), rfl⟩, ⟨some (.int q.2), rfl⟩)
  · refine tq_iload_n dX8_hottest_12 rfl ?_
    refine tq_if_lt dX8_hottest_13 rfl ?_ ?_
    · refine tq_iload_n dX8_hottest_51 rfl ?_
      refine tq_istore_n (L' := [_, _, _]) dX8_hottest_52 (Nat.le_of_ble_eq_true rfl) rfl ?_
      refine tq_iinc (v := (q.2 + 1)) (L' := [_, _, _]) dX8_hottest_53 rfl (Nat.le_of_ble_eq_true rfl) rfl rfl ?_
      refine tq_goto dX8_hottest_56 rfl ?_
      exact Bfm_hottest_b4 _ _ _ ()
    · refine tq_aload_n dX8_hottest_16 rfl ?_
      refine tm_ga (j := 20) dX8_hottest_17 rfl rfl ?_
      refine tq_iload_n dX8_hottest_20 rfl ?_
      refine tm_ild dX8_hottest_21 rfl (fun x21 => ?_)
      refine tq_aload_n dX8_hottest_22 rfl ?_
      refine tm_ga (j := 22) dX8_hottest_23 rfl rfl ?_
      refine tq_bipush (v := 8) dX8_hottest_26 (by decide) ?_
      refine tq_iload_n dX8_hottest_28 rfl ?_
      refine tq_iadd dX8_hottest_29 ?_
      refine tm_ild dX8_hottest_30 rfl (fun x30 => ?_)
      refine tq_isub dX8_hottest_31 ?_
      refine tq_aload_n dX8_hottest_32 rfl ?_
      refine tm_ga (j := 20) dX8_hottest_33 rfl rfl ?_
      refine tq_iload_n dX8_hottest_36 rfl ?_
      refine tm_ild dX8_hottest_37 rfl (fun x37 => ?_)
      refine tq_aload_n dX8_hottest_38 rfl ?_
      refine tm_ga (j := 22) dX8_hottest_39 rfl rfl ?_
      refine tq_bipush (v := 8) dX8_hottest_42 (by decide) ?_
      refine tq_iload_n dX8_hottest_44 rfl ?_
      refine tq_iadd dX8_hottest_45 ?_
      refine tm_ild dX8_hottest_46 rfl (fun x46 => ?_)
      refine tq_isub dX8_hottest_47 ?_
      refine tq_icmp_ge dX8_hottest_48 rfl ?_ ?_
      · refine tq_iinc (v := (q.2 + 1)) (L' := [_, _, _]) dX8_hottest_53 rfl (Nat.le_of_ble_eq_true rfl) rfl rfl ?_
        refine tq_goto dX8_hottest_56 rfl ?_
        exact Bfm_hottest_b4 _ _ _ ()
      · refine tq_iload_n dX8_hottest_51 rfl ?_
        refine tq_istore_n (L' := [_, _, _]) dX8_hottest_52 (Nat.le_of_ble_eq_true rfl) rfl ?_
        refine tq_iinc (v := (q.2 + 1)) (L' := [_, _, _]) dX8_hottest_53 rfl (Nat.le_of_ble_eq_true rfl) rfl rfl ?_
        refine tq_goto dX8_hottest_56 rfl ?_
        exact Bfm_hottest_b4 _ _ _ ()
theorem Sfm_hottest_b4 {G : ai_G} {d M : Nat} {h0 : ai_H} {α : Type} {P : α → Option ai_R → Prop} (s : mS) (b0 : Int32) (b1 : Int32) (J : Unit) {r : Int32 → Option α} (kk : ∀ (q : Int32) (J : JV × JV), Tj G d 269 P (r q) 59 [J.1.1, some (.int q), J.2.1] [] (mH M s h0)) : Tj G d 269 P ((lp (fm_hottest_b4 s) (b0, b1)).bind r) 4 [some (.ref M), some (.int b0), some (.int b1)] [] (mH M s h0) := tq_lp1 (J := J) (fun q J => wfm_hottest_b4 s q J) rfl rfl kk
theorem wfm_hottest {G : ai_G} {d M : Nat} {h0 : ai_H} (s : mS) : ∀ r, fm_hottest s = some r → (Pi (mH M s h0)) r (ai_call G (d + 1) 269 [.ref M] (mH M s h0)) := by
  refine tq_meth (P := (Pi (mH M s h0))) (d := d) (Nat.le_of_ble_eq_true rfl) ?_
  show Tj G d 269 (Pi (mH M s h0)) (fm_hottest s) 0 [some (.ref M), none, none] [] (mH M s h0)
  unfold fm_hottest
  refine tq_iconst (v := (-1)) dX8_hottest_0 (by decide) ?_
  refine tq_istore_n (L' := [_, _, _]) dX8_hottest_1 (Nat.le_of_ble_eq_true rfl) rfl ?_
  refine tq_iconst (v := 0) dX8_hottest_2 (by decide) ?_
  refine tq_istore_n (L' := [_, _, _]) dX8_hottest_3 (Nat.le_of_ble_eq_true rfl) rfl ?_
  refine Sfm_hottest_b4 _ _ _ () (fun q4 J4 => ?_)
  refine tq_iload_n dX8_hottest_59 rfl ?_
  exact tq_ireturn dX8_hottest_60 rfl rfl
abbrev Pfm_law_b22 (G : ai_G) (d M : Nat) (h0 : ai_H) (s : mS) (v1 : Int32) (v2 : Int32) : (Int32 × Int32) ⊕ Int32 → Option ai_R → Prop := Sum.elim (fun (q : Int32 × Int32) run => ∃ J : Unit, run = ai_run G (d + 3) 271 22 [some (.ref M), some (.int v1), some (.int v2), some (.int q.1), some (.int q.2)] [] (mH M s h0)) (fun (q : Int32) run => ∃ J : JV × JV × JV × JV, run = ai_run G (d + 3) 271 69 [J.1.1, J.2.1.1, J.2.2.1.1, some (.int q), J.2.2.2.1] [] (mH M s h0))
theorem Bfm_law_b22 {G : ai_G} {d M : Nat} {h0 : ai_H} (s : mS) (v1 : Int32) (v2 : Int32) (b0 : Int32) (b1 : Int32) (J : Unit) : Tj G (d + 3) 271 (Pfm_law_b22 G d M h0 s v1 v2) (some (.inl (b0, b1))) 22 [some (.ref M), some (.int v1), some (.int v2), some (.int b0), some (.int b1)] [] (mH M s h0) := tq_back J rfl rfl
theorem Efm_law_b22 {G : ai_G} {d M : Nat} {h0 : ai_H} (s : mS) (v1 : Int32) (v2 : Int32) (b0 : Int32) (J : JV × JV × JV × JV) : Tj G (d + 3) 271 (Pfm_law_b22 G d M h0 s v1 v2) (some (.inr b0)) 69 [J.1.1, J.2.1.1, J.2.2.1.1, some (.int b0), J.2.2.2.1] [] (mH M s h0) := tq_exit J rfl rfl
theorem wfm_law_b22 {G : ai_G} {d M : Nat} {h0 : ai_H} (s : mS) (v1 : Int32) (v2 : Int32) (q : Int32 × Int32) (J : Unit) : Tj G (d + 3) 271 (Pfm_law_b22 G d M h0 s v1 v2) (fm_law_b22 s v1 v2 q) 22 [some (.ref M), some (.int v1), some (.int v2), some (.int q.1), some (.int q.2)] [] (mH M s h0) := by
  unfold fm_law_b22
  refine tq_iload dX8_law_22 rfl ?_
  refine tq_aload_n dX8_law_24 rfl ?_
  refine tm_gi (k9 := 49) dX8_law_25 rfl rfl ?_
  refine tq_icmp_ge dX8_law_28 rfl ?_ ?_
  · exact Efm_law_b22 _ _ _ _ (⟨some (.ref M), rfl⟩, ⟨some (.int v1), rfl⟩, ⟨some (.int v2), rfl⟩, ⟨some (.int q.2), rfl⟩)
  · refine tq_iload_n dX8_law_31 rfl ?_
    refine tq_iload_n dX8_law_32 rfl ?_
    refine tq_iload dX8_law_33 rfl ?_
    refine tq_ishr dX8_law_35 ?_
    refine tq_iconst (v := 1) dX8_law_36 (by decide) ?_
    refine tq_iand dX8_law_37 ?_
    refine tq_iconst (v := 1) dX8_law_38 (by decide) ?_
    refine tq_icmp_ne dX8_law_39 rfl ?_ ?_
    · refine tq_iconst (v := 0) dX8_law_57 (by decide) ?_
      refine ts_c1_i dX8_law_58 rfl rfl rfl (Nat.le_of_ble_eq_true rfl) (wfm_truth (d := d + 2) _) (fun p58 => ?_)
      refine tq_iadd dX8_law_61 ?_
      refine tq_istore_n (L' := [_, _, _, _, _]) dX8_law_62 (Nat.le_of_ble_eq_true rfl) rfl ?_
      refine tq_iinc (v := (q.2 + 1)) (L' := [_, _, _, _, _]) dX8_law_63 rfl (Nat.le_of_ble_eq_true rfl) rfl rfl ?_
      refine tq_goto dX8_law_66 rfl ?_
      exact Bfm_law_b22 _ _ _ _ _ ()
    · refine tq_aload_n dX8_law_42 rfl ?_
      refine tm_ga (j := 21) dX8_law_43 rfl rfl ?_
      refine tq_iload dX8_law_46 rfl ?_
      refine tm_ild dX8_law_48 rfl (fun x48 => ?_)
      refine tq_iload_n dX8_law_49 rfl ?_
      refine tq_icmp_gt dX8_law_50 rfl ?_ ?_
      · refine tq_iconst (v := 0) dX8_law_57 (by decide) ?_
        refine ts_c1_i dX8_law_58 rfl rfl rfl (Nat.le_of_ble_eq_true rfl) (wfm_truth (d := d + 2) _) (fun p58 => ?_)
        refine tq_iadd dX8_law_61 ?_
        refine tq_istore_n (L' := [_, _, _, _, _]) dX8_law_62 (Nat.le_of_ble_eq_true rfl) rfl ?_
        refine tq_iinc (v := (q.2 + 1)) (L' := [_, _, _, _, _]) dX8_law_63 rfl (Nat.le_of_ble_eq_true rfl) rfl rfl ?_
        refine tq_goto dX8_law_66 rfl ?_
        exact Bfm_law_b22 _ _ _ _ _ ()
      · refine tq_iconst (v := 1) dX8_law_53 (by decide) ?_
        refine tq_goto dX8_law_54 rfl ?_
        refine ts_c1_i dX8_law_58 rfl rfl rfl (Nat.le_of_ble_eq_true rfl) (wfm_truth (d := d + 2) _) (fun p58 => ?_)
        refine tq_iadd dX8_law_61 ?_
        refine tq_istore_n (L' := [_, _, _, _, _]) dX8_law_62 (Nat.le_of_ble_eq_true rfl) rfl ?_
        refine tq_iinc (v := (q.2 + 1)) (L' := [_, _, _, _, _]) dX8_law_63 rfl (Nat.le_of_ble_eq_true rfl) rfl rfl ?_
        refine tq_goto dX8_law_66 rfl ?_
        exact Bfm_law_b22 _ _ _ _ _ ()
theorem Sfm_law_b22 {G : ai_G} {d M : Nat} {h0 : ai_H} {α : Type} {P : α → Option ai_R → Prop} (s : mS) (v1 : Int32) (v2 : Int32) (b0 : Int32) (b1 : Int32) (J : Unit) {r : Int32 → Option α} (kk : ∀ (q : Int32) (J : JV × JV × JV × JV), Tj G (d + 3) 271 P (r q) 69 [J.1.1, J.2.1.1, J.2.2.1.1, some (.int q), J.2.2.2.1] [] (mH M s h0)) : Tj G (d + 3) 271 P ((lp (fm_law_b22 s v1 v2) (b0, b1)).bind r) 22 [some (.ref M), some (.int v1), some (.int v2), some (.int b0), some (.int b1)] [] (mH M s h0) := tq_lp1 (J := J) (fun q J => wfm_law_b22 s v1 v2 q J) rfl rfl kk
theorem wfm_law {G : ai_G} {d M : Nat} {h0 : ai_H} (s : mS) (v1 : Int32) : ∀ r, fm_law s v1 = some r → (PmI M h0) r (ai_call G (d + 4) 271 [.ref M, .int v1] (mH M s h0)) := by
  refine tq_meth (P := (PmI M h0)) (d := (d + 3)) (Nat.le_of_ble_eq_true rfl) ?_
  show Tj G (d + 3) 271 (PmI M h0) (fm_law s v1) 0 [some (.ref M), some (.int v1), none, none, none] [] (mH M s h0)
  unfold fm_law
  refine tq_iload_n dX8_law_0 rfl ?_
  refine tq_iconst (v := 0) dX8_law_1 (by decide) ?_
  refine tq_bipush (v := 99) dX8_law_2 (by decide) ?_
  refine ts_c3_i dX8_law_4 rfl rfl rfl (Nat.le_of_ble_eq_true rfl) (wfm_isIn (d := d + 2) _ _ _) (fun p4 => ?_)
  refine tq_if_ne dX8_law_7 rfl ?_ ?_
  · refine tq_aload_n dX8_law_12 rfl ?_
    refine tm_c0_I dX8_law_13 rfl rfl rfl (Nat.le_of_ble_eq_true rfl) (wfm_nearLoads (d := d) _) (fun p13 => ?_)
    refine tq_istore_n (L' := [_, _, _, _, _]) dX8_law_16 (Nat.le_of_ble_eq_true rfl) rfl ?_
    refine tq_iconst (v := 0) dX8_law_17 (by decide) ?_
    refine tq_istore_n (L' := [_, _, _, _, _]) dX8_law_18 (Nat.le_of_ble_eq_true rfl) rfl ?_
    refine tq_iconst (v := 0) dX8_law_19 (by decide) ?_
    refine tq_istore (L' := [_, _, _, _, _]) dX8_law_20 (Nat.le_of_ble_eq_true rfl) rfl ?_
    refine Sfm_law_b22 _ _ _ _ _ () (fun q22 J22 => ?_)
    refine tq_iload_n dX8_law_69 rfl ?_
    exact tq_ireturn dX8_law_70 rfl rfl
  · refine tq_iconst (v := (-1)) dX8_law_10 (by decide) ?_
    exact tq_ireturn dX8_law_11 rfl rfl
theorem wfm_lies {G : ai_G} {d M : Nat} {h0 : ai_H} (s : mS) (v1 : Int32) : ∀ r, fm_lies s v1 = some r → (Pi (mH M s h0)) r (ai_call G (d + 2) 273 [.ref M, .int v1] (mH M s h0)) := by
  refine tq_meth (P := (Pi (mH M s h0))) (d := (d + 1)) (Nat.le_of_ble_eq_true rfl) ?_
  show Tj G (d + 1) 273 (Pi (mH M s h0)) (fm_lies s v1) 0 [some (.ref M), some (.int v1)] [] (mH M s h0)
  unfold fm_lies
  refine tq_iload_n dX8_lies_0 rfl ?_
  refine tq_iconst (v := 0) dX8_lies_1 (by decide) ?_
  refine tq_aload_n dX8_lies_2 rfl ?_
  refine tm_gi (k9 := 61) dX8_lies_3 rfl rfl ?_
  refine tq_iconst (v := 1) dX8_lies_6 (by decide) ?_
  refine tq_isub dX8_lies_7 ?_
  refine ts_c3_i dX8_lies_8 rfl rfl rfl (Nat.le_of_ble_eq_true rfl) (wfm_isIn (d := d) _ _ _) (fun p8 => ?_)
  refine tq_if_eq dX8_lies_11 rfl ?_ ?_
  · refine tq_bipush (v := (-2)) dX8_lies_23 (by decide) ?_
    exact tq_ireturn dX8_lies_25 rfl rfl
  · refine tq_aload_n dX8_lies_14 rfl ?_
    refine tm_ga (j := 26) dX8_lies_15 rfl rfl ?_
    refine tq_iload_n dX8_lies_18 rfl ?_
    refine tm_ild dX8_lies_19 rfl (fun x19 => ?_)
    refine tq_goto dX8_lies_20 rfl ?_
    exact tq_ireturn dX8_lies_25 rfl rfl
theorem wfm_see {G : ai_G} {d M : Nat} {h0 : ai_H} (s : mS) (v1 : Int32) (v2 : Int32) (v3 : Int32) (v4 : Int32) : ∀ r, fm_see s v1 v2 v3 v4 = some r → (PmI M h0) r (ai_call G (d + 2) 277 [.ref M, .int v1, .int v2, .int v3, .int v4] (mH M s h0)) := by
  refine tq_meth (P := (PmI M h0)) (d := (d + 1)) (Nat.le_of_ble_eq_true rfl) ?_
  show Tj G (d + 1) 277 (PmI M h0) (fm_see s v1 v2 v3 v4) 0 [some (.ref M), some (.int v1), some (.int v2), some (.int v3), some (.int v4)] [] (mH M s h0)
  unfold fm_see
  refine tq_aload_n dX8_see_0 rfl ?_
  refine tm_gi (k9 := 48) dX8_see_1 rfl rfl ?_
  refine tq_if_eq dX8_see_4 rfl ?_ ?_
  · refine tq_iconst (v := (-1)) dX8_see_28 (by decide) ?_
    exact tq_ireturn dX8_see_29 rfl rfl
  · refine tq_iload_n dX8_see_7 rfl ?_
    refine tq_iconst (v := 1) dX8_see_8 (by decide) ?_
    refine tq_aload_n dX8_see_9 rfl ?_
    refine tm_gi (k9 := 47) dX8_see_10 rfl rfl ?_
    refine ts_c3_i dX8_see_13 rfl rfl rfl (Nat.le_of_ble_eq_true rfl) (wfm_isIn (d := d) _ _ _) (fun p13 => ?_)
    refine tq_if_eq dX8_see_16 rfl ?_ ?_
    · refine tq_iconst (v := (-1)) dX8_see_28 (by decide) ?_
      exact tq_ireturn dX8_see_29 rfl rfl
    · refine tq_aload_n dX8_see_19 rfl ?_
      refine tm_gi (k9 := 75) dX8_see_20 rfl rfl ?_
      refine tq_bipush (v := 30) dX8_see_23 (by decide) ?_
      refine tq_icmp_ne dX8_see_25 rfl ?_ ?_
      · refine tq_aload_n dX8_see_30 rfl ?_
        refine tm_ga (j := 34) dX8_see_31 rfl rfl ?_
        refine tq_aload_n dX8_see_34 rfl ?_
        refine tm_gi (k9 := 75) dX8_see_35 rfl rfl ?_
        refine tq_iload_n dX8_see_38 rfl ?_
        refine tm_ist dX8_see_39 rfl (fun s39 => ?_)
        refine tq_aload_n dX8_see_40 rfl ?_
        refine tm_ga (j := 35) dX8_see_41 rfl rfl ?_
        refine tq_aload_n dX8_see_44 rfl ?_
        refine tm_gi (k9 := 75) dX8_see_45 rfl rfl ?_
        refine tq_iload_n dX8_see_48 rfl ?_
        refine tm_ist dX8_see_49 rfl (fun s49 => ?_)
        refine tq_aload_n dX8_see_50 rfl ?_
        refine tm_ga (j := 36) dX8_see_51 rfl rfl ?_
        refine tq_aload_n dX8_see_54 rfl ?_
        refine tm_gi (k9 := 75) dX8_see_55 rfl rfl ?_
        refine tq_iload_n dX8_see_58 rfl ?_
        refine tm_ist dX8_see_59 rfl (fun s59 => ?_)
        refine tq_aload_n dX8_see_60 rfl ?_
        refine tm_ga (j := 39) dX8_see_61 rfl rfl ?_
        refine tq_aload_n dX8_see_64 rfl ?_
        refine tm_gi (k9 := 75) dX8_see_65 rfl rfl ?_
        refine tq_iload dX8_see_68 rfl ?_
        refine tm_bst dX8_see_70 rfl (fun s70 => ?_)
        refine tq_aload_n dX8_see_71 rfl ?_
        refine tm_ga (j := 37) dX8_see_72 rfl rfl ?_
        refine tq_aload_n dX8_see_75 rfl ?_
        refine tm_gi (k9 := 75) dX8_see_76 rfl rfl ?_
        refine tq_aload_n dX8_see_79 rfl ?_
        refine tm_gi (k9 := 76) dX8_see_80 rfl rfl ?_
        refine tm_ist dX8_see_83 rfl (fun s83 => ?_)
        refine tq_aload_n dX8_see_84 rfl ?_
        refine tm_ga (j := 38) dX8_see_85 rfl rfl ?_
        refine tq_aload_n dX8_see_88 rfl ?_
        refine tm_gi (k9 := 75) dX8_see_89 rfl rfl ?_
        refine tq_iconst (v := (-1)) dX8_see_92 (by decide) ?_
        refine tm_ist dX8_see_93 rfl (fun s93 => ?_)
        refine tq_aload_n dX8_see_94 rfl ?_
        refine tq_dup dX8_see_95 rfl ?_
        refine tm_gi (k9 := 75) dX8_see_96 rfl rfl ?_
        refine tq_iconst (v := 1) dX8_see_99 (by decide) ?_
        refine tq_iadd dX8_see_100 ?_
        refine tm_pi dX8_see_101 rfl rfl (fun s101 => ?_)
        refine tq_aload_n dX8_see_104 rfl ?_
        refine tm_gi (k9 := 75) dX8_see_105 rfl rfl ?_
        refine tq_iconst (v := 1) dX8_see_108 (by decide) ?_
        refine tq_isub dX8_see_109 ?_
        exact tq_ireturn dX8_see_110 rfl rfl
      · refine tq_iconst (v := (-1)) dX8_see_28 (by decide) ?_
        exact tq_ireturn dX8_see_29 rfl rfl
theorem wfm_passed {G : ai_G} {d M : Nat} {h0 : ai_H} (s : mS) (v1 : Int32) (v2 : Int32) (v3 : Int32) : ∀ r, fm_passed s v1 v2 v3 = some r → (PmI M h0) r (ai_call G (d + 3) 278 [.ref M, .int v1, .int v2, .int v3] (mH M s h0)) := by
  refine tq_meth (P := (PmI M h0)) (d := (d + 2)) (Nat.le_of_ble_eq_true rfl) ?_
  show Tj G (d + 2) 278 (PmI M h0) (fm_passed s v1 v2 v3) 0 [some (.ref M), some (.int v1), some (.int v2), some (.int v3)] [] (mH M s h0)
  unfold fm_passed
  refine tq_iload_n dX8_passed_0 rfl ?_
  refine tq_iconst (v := 0) dX8_passed_1 (by decide) ?_
  refine tq_bipush (v := 7) dX8_passed_2 (by decide) ?_
  refine ts_c3_i dX8_passed_4 rfl rfl rfl (Nat.le_of_ble_eq_true rfl) (wfm_isIn (d := d + 1) _ _ _) (fun p4 => ?_)
  refine tq_if_eq dX8_passed_7 rfl ?_ ?_
  · refine tq_iconst (v := (-1)) dX8_passed_21 (by decide) ?_
    exact tq_ireturn dX8_passed_22 rfl rfl
  · refine tq_aload_n dX8_passed_10 rfl ?_
    refine tq_iconst (v := 0) dX8_passed_11 (by decide) ?_
    refine tq_iload_n dX8_passed_12 rfl ?_
    refine tq_iload_n dX8_passed_13 rfl ?_
    refine tq_iload_n dX8_passed_14 rfl ?_
    refine tm_c4_I dX8_passed_15 rfl rfl rfl (Nat.le_of_ble_eq_true rfl) (wfm_see (d := d) _ _ _ _ _) (fun p15 => ?_)
    refine tq_goto dX8_passed_18 rfl ?_
    exact tq_ireturn dX8_passed_22 rfl rfl
theorem wfm_felt {G : ai_G} {d M : Nat} {h0 : ai_H} (s : mS) (v1 : Int32) (v2 : Int32) (v3 : Int32) : ∀ r, fm_felt s v1 v2 v3 = some r → (PmI M h0) r (ai_call G (d + 3) 280 [.ref M, .int v1, .int v2, .int v3] (mH M s h0)) := by
  refine tq_meth (P := (PmI M h0)) (d := (d + 2)) (Nat.le_of_ble_eq_true rfl) ?_
  show Tj G (d + 2) 280 (PmI M h0) (fm_felt s v1 v2 v3) 0 [some (.ref M), some (.int v1), some (.int v2), some (.int v3)] [] (mH M s h0)
  unfold fm_felt
  refine tq_iload_n dX8_felt_0 rfl ?_
  refine tq_iconst (v := 0) dX8_felt_1 (by decide) ?_
  refine tq_bipush (v := 99) dX8_felt_2 (by decide) ?_
  refine ts_c3_i dX8_felt_4 rfl rfl rfl (Nat.le_of_ble_eq_true rfl) (wfm_isIn (d := d + 1) _ _ _) (fun p4 => ?_)
  refine tq_if_eq dX8_felt_7 rfl ?_ ?_
  · refine tq_iconst (v := (-1)) dX8_felt_21 (by decide) ?_
    exact tq_ireturn dX8_felt_22 rfl rfl
  · refine tq_aload_n dX8_felt_10 rfl ?_
    refine tq_iconst (v := 1) dX8_felt_11 (by decide) ?_
    refine tq_iload_n dX8_felt_12 rfl ?_
    refine tq_iload_n dX8_felt_13 rfl ?_
    refine tq_iload_n dX8_felt_14 rfl ?_
    refine tm_c4_I dX8_felt_15 rfl rfl rfl (Nat.le_of_ble_eq_true rfl) (wfm_see (d := d) _ _ _ _ _) (fun p15 => ?_)
    refine tq_goto dX8_felt_18 rfl ?_
    exact tq_ireturn dX8_felt_22 rfl rfl

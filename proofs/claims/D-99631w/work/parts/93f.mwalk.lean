/-! WALKS of the model: the interpreter does what the functions say (printed by tools/decm.py) -/
set_option maxRecDepth 100000
abbrev Pfm_nextTrips_b7 (G : ai_G) (d M : Nat) (h0 : ai_H) (s : mS) (v1 : Int32) : Int32 ⊕ Int32 → Option ai_R → Prop := Sum.elim (fun (q : Int32) run => ∃ J : JV, run = ai_run G (d + 1) 225 7 [some (.ref M), some (.int v1), some (.int q), J.1] [] (mH M s h0)) (fun (q : Int32) run => ∃ J : JV, run = ai_run G (d + 1) 225 40 [some (.ref M), some (.int v1), some (.int q), J.1] [] (mH M s h0))
theorem Bfm_nextTrips_b7 {G : ai_G} {d M : Nat} {h0 : ai_H} (s : mS) (v1 : Int32) (b0 : Int32) (J : JV) : Tj G (d + 1) 225 (Pfm_nextTrips_b7 G d M h0 s v1) (some (.inl b0)) 7 [some (.ref M), some (.int v1), some (.int b0), J.1] [] (mH M s h0) := tq_back J rfl rfl
theorem Efm_nextTrips_b7 {G : ai_G} {d M : Nat} {h0 : ai_H} (s : mS) (v1 : Int32) (b0 : Int32) (J : JV) : Tj G (d + 1) 225 (Pfm_nextTrips_b7 G d M h0 s v1) (some (.inr b0)) 40 [some (.ref M), some (.int v1), some (.int b0), J.1] [] (mH M s h0) := tq_exit J rfl rfl
theorem wfm_nextTrips_b7 {G : ai_G} {d M : Nat} {h0 : ai_H} (s : mS) (v1 : Int32) (q : Int32) (J : JV) : Tj G (d + 1) 225 (Pfm_nextTrips_b7 G d M h0 s v1) (fm_nextTrips_b7 s v1 q) 7 [some (.ref M), some (.int v1), some (.int q), J.1] [] (mH M s h0) := by
  unfold fm_nextTrips_b7
  refine tq_iload_n dX8_nextTrips_7 rfl ?_
  refine tq_if_lt dX8_nextTrips_8 rfl ?_ ?_
  · exact Efm_nextTrips_b7 _ _ _ J
  · refine tq_iload_n dX8_nextTrips_11 rfl ?_
    refine tq_iload_n dX8_nextTrips_12 rfl ?_
    refine tq_ishr dX8_nextTrips_13 ?_
    refine tq_iconst (v := 1) dX8_nextTrips_14 (by decide) ?_
    refine tq_iand dX8_nextTrips_15 ?_
    refine tq_if_eq dX8_nextTrips_16 rfl ?_ ?_
    · refine tq_iinc (v := (q + (-1))) (L' := [_, _, _, _]) dX8_nextTrips_34 rfl (Nat.le_of_ble_eq_true rfl) rfl rfl ?_
      refine tq_goto dX8_nextTrips_37 rfl ?_
      exact Bfm_nextTrips_b7 _ _ _ J
    · refine tq_aload_n dX8_nextTrips_19 rfl ?_
      refine tm_ga (j := 27) dX8_nextTrips_20 rfl rfl ?_
      refine tq_iload_n dX8_nextTrips_23 rfl ?_
      refine tm_ild dX8_nextTrips_24 rfl (fun x24 => ?_)
      refine tq_aload_n dX8_nextTrips_25 rfl ?_
      refine tm_ga (j := 28) dX8_nextTrips_26 rfl rfl ?_
      refine tq_iload_n dX8_nextTrips_29 rfl ?_
      refine tm_ild dX8_nextTrips_30 rfl (fun x30 => ?_)
      refine tq_icmp_ne dX8_nextTrips_31 rfl ?_ ?_
      · exact Efm_nextTrips_b7 _ _ _ J
      · refine tq_iinc (v := (q + (-1))) (L' := [_, _, _, _]) dX8_nextTrips_34 rfl (Nat.le_of_ble_eq_true rfl) rfl rfl ?_
        refine tq_goto dX8_nextTrips_37 rfl ?_
        exact Bfm_nextTrips_b7 _ _ _ J
theorem Sfm_nextTrips_b7 {G : ai_G} {d M : Nat} {h0 : ai_H} {α : Type} {P : α → Option ai_R → Prop} (s : mS) (v1 : Int32) (b0 : Int32) (J : JV) {r : Int32 → Option α} (kk : ∀ (q : Int32) (J : JV), Tj G (d + 1) 225 P (r q) 40 [some (.ref M), some (.int v1), some (.int q), J.1] [] (mH M s h0)) : Tj G (d + 1) 225 P ((lp (fm_nextTrips_b7 s v1) b0).bind r) 7 [some (.ref M), some (.int v1), some (.int b0), J.1] [] (mH M s h0) := tq_lp1 (J := J) (fun q J => wfm_nextTrips_b7 s v1 q J) rfl rfl kk
abbrev Pfm_nextTrips_b60 (G : ai_G) (d M : Nat) (h0 : ai_H) (v1 : Int32) : (Int32 × mS) ⊕ mS → Option ai_R → Prop := Sum.elim (fun (q : Int32 × mS) run => ∃ J : JV, run = ai_run G (d + 1) 225 60 [some (.ref M), some (.int v1), J.1, some (.int q.1)] [] (mH M q.2 h0)) (fun (q : mS) run => ∃ J : JV × JV, run = ai_run G (d + 1) 225 81 [some (.ref M), some (.int v1), J.1.1, J.2.1] [] (mH M q h0))
theorem Bfm_nextTrips_b60 {G : ai_G} {d M : Nat} {h0 : ai_H} (v1 : Int32) (b0 : Int32) (b1 : mS) (J : JV) : Tj G (d + 1) 225 (Pfm_nextTrips_b60 G d M h0 v1) (some (.inl (b0, b1))) 60 [some (.ref M), some (.int v1), J.1, some (.int b0)] [] (mH M b1 h0) := tq_back J rfl rfl
theorem Efm_nextTrips_b60 {G : ai_G} {d M : Nat} {h0 : ai_H} (v1 : Int32) (b0 : mS) (J : JV × JV) : Tj G (d + 1) 225 (Pfm_nextTrips_b60 G d M h0 v1) (some (.inr b0)) 81 [some (.ref M), some (.int v1), J.1.1, J.2.1] [] (mH M b0 h0) := tq_exit J rfl rfl
theorem wfm_nextTrips_b60 {G : ai_G} {d M : Nat} {h0 : ai_H} (v1 : Int32) (q : Int32 × mS) (J : JV) : Tj G (d + 1) 225 (Pfm_nextTrips_b60 G d M h0 v1) (fm_nextTrips_b60 v1 q) 60 [some (.ref M), some (.int v1), J.1, some (.int q.1)] [] (mH M q.2 h0) := by
  unfold fm_nextTrips_b60
  refine tq_iload_n dX8_nextTrips_60 rfl ?_
  refine tq_aload_n dX8_nextTrips_61 rfl ?_
  refine tm_gi (k9 := 49) dX8_nextTrips_62 rfl rfl ?_
  refine tq_icmp_ge dX8_nextTrips_65 rfl ?_ ?_
  · exact Efm_nextTrips_b60 _ _ (J, ⟨some (.int q.1), rfl⟩)
  · refine tq_aload_n dX8_nextTrips_68 rfl ?_
    refine tm_ga (j := 27) dX8_nextTrips_69 rfl rfl ?_
    refine tq_iload_n dX8_nextTrips_72 rfl ?_
    refine tq_iconst (v := 0) dX8_nextTrips_73 (by decide) ?_
    refine tm_ist dX8_nextTrips_74 rfl (fun s74 => ?_)
    refine tq_iinc (v := (q.1 + 1)) (L' := [_, _, _, _]) dX8_nextTrips_75 rfl (Nat.le_of_ble_eq_true rfl) rfl (st1_jv (i := 2) (j := J) rfl rfl) ?_
    refine tq_goto dX8_nextTrips_78 rfl ?_
    exact Bfm_nextTrips_b60 _ _ _ J
theorem Sfm_nextTrips_b60 {G : ai_G} {d M : Nat} {h0 : ai_H} {α : Type} {P : α → Option ai_R → Prop} (v1 : Int32) (b0 : Int32) (b1 : mS) (J : JV) {r : mS → Option α} (kk : ∀ (q : mS) (J : JV × JV), Tj G (d + 1) 225 P (r q) 81 [some (.ref M), some (.int v1), J.1.1, J.2.1] [] (mH M q h0)) : Tj G (d + 1) 225 P ((lp (fm_nextTrips_b60 v1) (b0, b1)).bind r) 60 [some (.ref M), some (.int v1), J.1, some (.int b0)] [] (mH M b1 h0) := tq_lp1 (J := J) (fun q J => wfm_nextTrips_b60 v1 q J) rfl rfl kk
theorem wfm_nextTrips_j40 {G : ai_G} {d M : Nat} {h0 : ai_H} (j3 : JV)   (s : mS) (v1 : Int32) (v2 : Int32): Tj G (d + 1) 225 (PmI M h0) (fm_nextTrips_j40 s v1 v2) 40 [some (.ref M), some (.int v1), some (.int v2), j3.1] [] (mH M s h0) := by
  unfold fm_nextTrips_j40
  refine tq_iload_n dX8_nextTrips_40 rfl ?_
  refine tq_if_ge dX8_nextTrips_41 rfl ?_ ?_
  · refine tq_aload_n dX8_nextTrips_46 rfl ?_
    refine tm_ga (j := 27) dX8_nextTrips_47 rfl rfl ?_
    refine tq_iload_n dX8_nextTrips_50 rfl ?_
    refine tq_dup2 dX8_nextTrips_51 rfl rfl ?_
    refine tm_ild dX8_nextTrips_52 rfl (fun x52 => ?_)
    refine tq_iconst (v := 1) dX8_nextTrips_53 (by decide) ?_
    refine tq_iadd dX8_nextTrips_54 ?_
    refine tm_ist dX8_nextTrips_55 rfl (fun s55 => ?_)
    refine tq_iload_n dX8_nextTrips_56 rfl ?_
    refine tq_iconst (v := 1) dX8_nextTrips_57 (by decide) ?_
    refine tq_iadd dX8_nextTrips_58 ?_
    refine tq_istore_n (L' := [_, _, _, _]) dX8_nextTrips_59 (Nat.le_of_ble_eq_true rfl) rfl ?_
    refine Sfm_nextTrips_b60 _ _ _ ⟨some (.int v2), rfl⟩ (fun q60 J60 => ?_)
    refine tq_aload_n dX8_nextTrips_81 rfl ?_
    refine tq_iload_n dX8_nextTrips_82 rfl ?_
    refine tm_c1_I dX8_nextTrips_83 rfl rfl rfl (Nat.le_of_ble_eq_true rfl) (wfm_layBefore (d := d) _ _) (fun p83 => ?_)
    refine tq_pop dX8_nextTrips_86 rfl ?_
    refine tq_iconst (v := 1) dX8_nextTrips_87 (by decide) ?_
    exact tq_ireturn dX8_nextTrips_88 (by decide) rfl
  · refine tq_iconst (v := 0) dX8_nextTrips_44 (by decide) ?_
    exact tq_ireturn dX8_nextTrips_45 (by decide) rfl
theorem wfm_nextTrips {G : ai_G} {d M : Nat} {h0 : ai_H} (s : mS) (v1 : Int32) : ∀ r, fm_nextTrips s v1 = some r → (PmI M h0) r (ai_call G (d + 2) 225 [.ref M, .int v1] (mH M s h0)) := by
  refine tq_meth (P := (PmI M h0)) (d := (d + 1)) (Nat.le_of_ble_eq_true rfl) ?_
  show Tj G (d + 1) 225 (PmI M h0) (fm_nextTrips s v1) 0 [some (.ref M), some (.int v1), none, none] [] (mH M s h0)
  unfold fm_nextTrips
  refine tq_aload_n dX8_nextTrips_0 rfl ?_
  refine tm_gi (k9 := 49) dX8_nextTrips_1 rfl rfl ?_
  refine tq_iconst (v := 1) dX8_nextTrips_4 (by decide) ?_
  refine tq_isub dX8_nextTrips_5 ?_
  refine tq_istore_n (L' := [_, _, _, _]) dX8_nextTrips_6 (Nat.le_of_ble_eq_true rfl) rfl ?_
  refine Sfm_nextTrips_b7 _ _ _ ⟨none, rfl⟩ (fun q7 J7 => ?_)
  exact wfm_nextTrips_j40 J7 _ _ _
abbrev Pfm_trips_b27 (G : ai_G) (d M : Nat) (h0 : ai_H) (v1 : Int32) (v2 : Int32) (v3 : Int32) : (Int32 × mS) ⊕ mS → Option ai_R → Prop := Sum.elim (fun (q : Int32 × mS) run => ∃ J : JV × JV, run = ai_run G (d + 3) 226 27 [some (.ref M), some (.int v1), some (.int v2), some (.int v3), some (.int q.1), J.1.1, J.2.1] [] (mH M q.2 h0)) (fun (q : mS) run => ∃ J : JV × JV × JV, run = ai_run G (d + 3) 226 48 [some (.ref M), some (.int v1), some (.int v2), some (.int v3), J.1.1, J.2.1.1, J.2.2.1] [] (mH M q h0))
theorem Bfm_trips_b27 {G : ai_G} {d M : Nat} {h0 : ai_H} (v1 : Int32) (v2 : Int32) (v3 : Int32) (b0 : Int32) (b1 : mS) (J : JV × JV) : Tj G (d + 3) 226 (Pfm_trips_b27 G d M h0 v1 v2 v3) (some (.inl (b0, b1))) 27 [some (.ref M), some (.int v1), some (.int v2), some (.int v3), some (.int b0), J.1.1, J.2.1] [] (mH M b1 h0) := tq_back J rfl rfl
theorem Efm_trips_b27 {G : ai_G} {d M : Nat} {h0 : ai_H} (v1 : Int32) (v2 : Int32) (v3 : Int32) (b0 : mS) (J : JV × JV × JV) : Tj G (d + 3) 226 (Pfm_trips_b27 G d M h0 v1 v2 v3) (some (.inr b0)) 48 [some (.ref M), some (.int v1), some (.int v2), some (.int v3), J.1.1, J.2.1.1, J.2.2.1] [] (mH M b0 h0) := tq_exit J rfl rfl
theorem wfm_trips_b27 {G : ai_G} {d M : Nat} {h0 : ai_H} (v1 : Int32) (v2 : Int32) (v3 : Int32) (q : Int32 × mS) (J : JV × JV) : Tj G (d + 3) 226 (Pfm_trips_b27 G d M h0 v1 v2 v3) (fm_trips_b27 v1 v2 v3 q) 27 [some (.ref M), some (.int v1), some (.int v2), some (.int v3), some (.int q.1), J.1.1, J.2.1] [] (mH M q.2 h0) := by
  unfold fm_trips_b27
  refine tq_iload dX8_trips_27 rfl ?_
  refine tq_bipush (v := 7) dX8_trips_29 (by decide) ?_
  refine tq_icmp_ge dX8_trips_31 rfl ?_ ?_
  · exact Efm_trips_b27 _ _ _ _ (⟨some (.int q.1), rfl⟩, J.1, J.2)
  · refine tq_aload_n dX8_trips_34 rfl ?_
    refine tm_ga (j := 27) dX8_trips_35 rfl rfl ?_
    refine tq_iload dX8_trips_38 rfl ?_
    refine tq_iconst (v := 0) dX8_trips_40 (by decide) ?_
    refine tm_ist dX8_trips_41 rfl (fun s41 => ?_)
    refine tq_iinc (v := (q.1 + 1)) (L' := [_, _, _, _, _, _, _]) dX8_trips_42 rfl (Nat.le_of_ble_eq_true rfl) rfl rfl ?_
    refine tq_goto dX8_trips_45 rfl ?_
    exact Bfm_trips_b27 _ _ _ _ _ (J.1, J.2)
theorem Sfm_trips_b27 {G : ai_G} {d M : Nat} {h0 : ai_H} {α : Type} {P : α → Option ai_R → Prop} (v1 : Int32) (v2 : Int32) (v3 : Int32) (b0 : Int32) (b1 : mS) (J : JV × JV) {r : mS → Option α} (kk : ∀ (q : mS) (J : JV × JV × JV), Tj G (d + 3) 226 P (r q) 48 [some (.ref M), some (.int v1), some (.int v2), some (.int v3), J.1.1, J.2.1.1, J.2.2.1] [] (mH M q h0)) : Tj G (d + 3) 226 P ((lp (fm_trips_b27 v1 v2 v3) (b0, b1)).bind r) 27 [some (.ref M), some (.int v1), some (.int v2), some (.int v3), some (.int b0), J.1.1, J.2.1] [] (mH M b1 h0) := tq_lp1 (J := J) (fun q J => wfm_trips_b27 v1 v2 v3 q J) rfl rfl kk
abbrev Pfm_trips_b57 (G : ai_G) (d M : Nat) (h0 : ai_H) (v1 : Int32) (v2 : Int32) : (Int32 × Int32 × mS) ⊕ (Int32 × mS) → Option ai_R → Prop := Sum.elim (fun (q : Int32 × Int32 × mS) run => ∃ J : JV × JV, run = ai_run G (d + 3) 226 57 [some (.ref M), some (.int v1), some (.int v2), some (.int q.1), some (.int q.2.1), J.1.1, J.2.1] [] (mH M q.2.2 h0)) (fun (q : Int32 × mS) run => ∃ J : JV × JV × JV × JV × JV × JV, run = ai_run G (d + 3) 226 156 [J.1.1, J.2.1.1, J.2.2.1.1, some (.int q.1), J.2.2.2.1.1, J.2.2.2.2.1.1, J.2.2.2.2.2.1] [] (mH M q.2 h0))
theorem Bfm_trips_b57 {G : ai_G} {d M : Nat} {h0 : ai_H} (v1 : Int32) (v2 : Int32) (b0 : Int32) (b1 : Int32) (b2 : mS) (J : JV × JV) : Tj G (d + 3) 226 (Pfm_trips_b57 G d M h0 v1 v2) (some (.inl (b0, b1, b2))) 57 [some (.ref M), some (.int v1), some (.int v2), some (.int b0), some (.int b1), J.1.1, J.2.1] [] (mH M b2 h0) := tq_back J rfl rfl
theorem Efm_trips_b57 {G : ai_G} {d M : Nat} {h0 : ai_H} (v1 : Int32) (v2 : Int32) (b0 : Int32) (b1 : mS) (J : JV × JV × JV × JV × JV × JV) : Tj G (d + 3) 226 (Pfm_trips_b57 G d M h0 v1 v2) (some (.inr (b0, b1))) 156 [J.1.1, J.2.1.1, J.2.2.1.1, some (.int b0), J.2.2.2.1.1, J.2.2.2.2.1.1, J.2.2.2.2.2.1] [] (mH M b1 h0) := tq_exit J rfl rfl
abbrev Pfm_trips_b95 (G : ai_G) (d M : Nat) (h0 : ai_H) (v1 : Int32) (v2 : Int32) (v3 : Int32) : (Int32 × mS) ⊕ mS → Option ai_R → Prop := Sum.elim (fun (q : Int32 × mS) run => ∃ J : JV × JV, run = ai_run G (d + 3) 226 95 [some (.ref M), some (.int v1), some (.int v2), some (.int v3), J.1.1, J.2.1, some (.int q.1)] [] (mH M q.2 h0)) (fun (q : mS) run => ∃ J : JV × JV × JV, run = ai_run G (d + 3) 226 138 [some (.ref M), some (.int v1), some (.int v2), some (.int v3), J.1.1, J.2.1.1, J.2.2.1] [] (mH M q h0))
theorem Bfm_trips_b95 {G : ai_G} {d M : Nat} {h0 : ai_H} (v1 : Int32) (v2 : Int32) (v3 : Int32) (b0 : Int32) (b1 : mS) (J : JV × JV) : Tj G (d + 3) 226 (Pfm_trips_b95 G d M h0 v1 v2 v3) (some (.inl (b0, b1))) 95 [some (.ref M), some (.int v1), some (.int v2), some (.int v3), J.1.1, J.2.1, some (.int b0)] [] (mH M b1 h0) := tq_back J rfl rfl
theorem Efm_trips_b95 {G : ai_G} {d M : Nat} {h0 : ai_H} (v1 : Int32) (v2 : Int32) (v3 : Int32) (b0 : mS) (J : JV × JV × JV) : Tj G (d + 3) 226 (Pfm_trips_b95 G d M h0 v1 v2 v3) (some (.inr b0)) 138 [some (.ref M), some (.int v1), some (.int v2), some (.int v3), J.1.1, J.2.1.1, J.2.2.1] [] (mH M b0 h0) := tq_exit J rfl rfl
theorem wfm_trips_b95 {G : ai_G} {d M : Nat} {h0 : ai_H} (v1 : Int32) (v2 : Int32) (v3 : Int32) (q : Int32 × mS) (J : JV × JV) : Tj G (d + 3) 226 (Pfm_trips_b95 G d M h0 v1 v2 v3) (fm_trips_b95 v1 v2 v3 q) 95 [some (.ref M), some (.int v1), some (.int v2), some (.int v3), J.1.1, J.2.1, some (.int q.1)] [] (mH M q.2 h0) := by
  unfold fm_trips_b95
  refine tq_iload dX8_trips_95 rfl ?_
  refine tq_aload_n dX8_trips_97 rfl ?_
  refine tm_gi (k9 := 49) dX8_trips_98 rfl rfl ?_
  refine tq_icmp_ge dX8_trips_101 rfl ?_ ?_
  · exact Efm_trips_b95 _ _ _ _ (J.1, J.2, ⟨some (.int q.1), rfl⟩)
  · refine tq_aload_n dX8_trips_104 rfl ?_
    refine tm_ga (j := 26) dX8_trips_105 rfl rfl ?_
    refine tq_iload dX8_trips_108 rfl ?_
    refine tq_iload_n dX8_trips_110 rfl ?_
    refine tq_iload dX8_trips_111 rfl ?_
    refine tq_ishr dX8_trips_113 ?_
    refine tq_iconst (v := 1) dX8_trips_114 (by decide) ?_
    refine tq_iand dX8_trips_115 ?_
    refine tq_iconst (v := 1) dX8_trips_116 (by decide) ?_
    refine tq_icmp_ne dX8_trips_117 rfl ?_ ?_
    · refine tq_iconst (v := (-1)) dX8_trips_130 (by decide) ?_
      refine tm_ist dX8_trips_131 rfl (fun s131 => ?_)
      refine tq_iinc (v := (q.1 + 1)) (L' := [_, _, _, _, _, _, _]) dX8_trips_132 rfl (Nat.le_of_ble_eq_true rfl) rfl (st1_jv (i := 5) (j := J.2) rfl rfl) ?_
      refine tq_goto dX8_trips_135 rfl ?_
      exact Bfm_trips_b95 _ _ _ _ _ (J.1, J.2)
    · refine tq_aload_n dX8_trips_120 rfl ?_
      refine tm_ga (j := 27) dX8_trips_121 rfl rfl ?_
      refine tq_iload dX8_trips_124 rfl ?_
      refine tm_ild dX8_trips_126 rfl (fun x126 => ?_)
      refine tq_goto dX8_trips_127 rfl ?_
      refine tm_ist dX8_trips_131 rfl (fun s131 => ?_)
      refine tq_iinc (v := (q.1 + 1)) (L' := [_, _, _, _, _, _, _]) dX8_trips_132 rfl (Nat.le_of_ble_eq_true rfl) rfl (st1_jv (i := 5) (j := J.2) rfl rfl) ?_
      refine tq_goto dX8_trips_135 rfl ?_
      exact Bfm_trips_b95 _ _ _ _ _ (J.1, J.2)
theorem Sfm_trips_b95 {G : ai_G} {d M : Nat} {h0 : ai_H} {α : Type} {P : α → Option ai_R → Prop} (v1 : Int32) (v2 : Int32) (v3 : Int32) (b0 : Int32) (b1 : mS) (J : JV × JV) {r : mS → Option α} (kk : ∀ (q : mS) (J : JV × JV × JV), Tj G (d + 3) 226 P (r q) 138 [some (.ref M), some (.int v1), some (.int v2), some (.int v3), J.1.1, J.2.1.1, J.2.2.1] [] (mH M q h0)) : Tj G (d + 3) 226 P ((lp (fm_trips_b95 v1 v2 v3) (b0, b1)).bind r) 95 [some (.ref M), some (.int v1), some (.int v2), some (.int v3), J.1.1, J.2.1, some (.int b0)] [] (mH M b1 h0) := tq_lp1 (J := J) (fun q J => wfm_trips_b95 v1 v2 v3 q J) rfl rfl kk
theorem wfm_trips_b57 {G : ai_G} {d M : Nat} {h0 : ai_H} (v1 : Int32) (v2 : Int32) (q : Int32 × Int32 × mS) (J : JV × JV) : Tj G (d + 3) 226 (Pfm_trips_b57 G d M h0 v1 v2) (fm_trips_b57 v1 v2 q) 57 [some (.ref M), some (.int v1), some (.int v2), some (.int q.1), some (.int q.2.1), J.1.1, J.2.1] [] (mH M q.2.2 h0) := by
  unfold fm_trips_b57
  refine tq_iload dX8_trips_57 rfl ?_
  refine tq_if_eq dX8_trips_59 rfl ?_ ?_
  · exact Efm_trips_b57 _ _ _ _ (⟨some (.ref M), rfl⟩, ⟨some (.int v1), rfl⟩, ⟨some (.int v2), rfl⟩, ⟨some (.int q.2.1), rfl⟩, J.1, J.2)
  · refine tq_aload_n dX8_trips_62 rfl ?_
    refine tq_iload_n dX8_trips_63 rfl ?_
    refine tm_c1_I dX8_trips_64 rfl rfl rfl (Nat.le_of_ble_eq_true rfl) (wfm_layBefore (d := d + 2) _ _) (fun p64 => ?_)
    refine tq_istore (L' := [_, _, _, _, _, _, _]) dX8_trips_67 (Nat.le_of_ble_eq_true rfl) rfl ?_
    refine tq_iload dX8_trips_69 rfl ?_
    refine tq_iload_n dX8_trips_71 rfl ?_
    refine tq_icmp_ge dX8_trips_72 rfl ?_ ?_
    · refine tq_aload_n dX8_trips_146 rfl ?_
      refine tq_iload_n dX8_trips_147 rfl ?_
      refine tm_c1_I dX8_trips_148 rfl rfl rfl (Nat.le_of_ble_eq_true rfl) (wfm_nextTrips (d := d + 1) _ _) (fun p148 => ?_)
      refine tq_istore (L' := [_, _, _, _, _, _, _]) dX8_trips_151 (Nat.le_of_ble_eq_true rfl) rfl ?_
      refine tq_goto dX8_trips_153 rfl ?_
      exact Bfm_trips_b57 _ _ _ _ _ (⟨some (.int p64.1), rfl⟩, J.2)
    · refine tq_aload_n dX8_trips_75 rfl ?_
      refine tq_iload_n dX8_trips_76 rfl ?_
      refine tq_aload_n dX8_trips_77 rfl ?_
      refine tm_ga (j := 18) dX8_trips_78 rfl rfl ?_
      refine tq_iload_n dX8_trips_81 rfl ?_
      refine tm_ild dX8_trips_82 rfl (fun x82 => ?_)
      refine tm_c2_I dX8_trips_83 rfl rfl rfl (Nat.le_of_ble_eq_true rfl) (wfm_isFlat (d := d + 2) _ _ _) (fun p83 => ?_)
      refine tq_if_eq dX8_trips_86 rfl ?_ ?_
      · refine tq_aload_n dX8_trips_146 rfl ?_
        refine tq_iload_n dX8_trips_147 rfl ?_
        refine tm_c1_I dX8_trips_148 rfl rfl rfl (Nat.le_of_ble_eq_true rfl) (wfm_nextTrips (d := d + 1) _ _) (fun p148 => ?_)
        refine tq_istore (L' := [_, _, _, _, _, _, _]) dX8_trips_151 (Nat.le_of_ble_eq_true rfl) rfl ?_
        refine tq_goto dX8_trips_153 rfl ?_
        exact Bfm_trips_b57 _ _ _ _ _ (⟨some (.int p64.1), rfl⟩, J.2)
      · refine tq_iload dX8_trips_89 rfl ?_
        refine tq_istore_n (L' := [_, _, _, _, _, _, _]) dX8_trips_91 (Nat.le_of_ble_eq_true rfl) rfl ?_
        refine tq_iconst (v := 0) dX8_trips_92 (by decide) ?_
        refine tq_istore (L' := [_, _, _, _, _, _, _]) dX8_trips_93 (Nat.le_of_ble_eq_true rfl) rfl ?_
        refine Sfm_trips_b95 _ _ _ _ _ (⟨some (.int q.2.1), rfl⟩, ⟨some (.int p64.1), rfl⟩) (fun q95 J95 => ?_)
        refine tq_aload_n dX8_trips_138 rfl ?_
        refine tq_aload_n dX8_trips_139 rfl ?_
        refine tm_gi (k9 := 49) dX8_trips_140 rfl rfl ?_
        refine tm_pi dX8_trips_143 rfl rfl (fun s143 => ?_)
        refine tq_aload_n dX8_trips_146 rfl ?_
        refine tq_iload_n dX8_trips_147 rfl ?_
        refine tm_c1_I dX8_trips_148 rfl rfl rfl (Nat.le_of_ble_eq_true rfl) (wfm_nextTrips (d := d + 1) _ _) (fun p148 => ?_)
        refine tq_istore (L' := [_, _, _, _, _, _, _]) dX8_trips_151 (Nat.le_of_ble_eq_true rfl) rfl ?_
        refine tq_goto dX8_trips_153 rfl ?_
        exact Bfm_trips_b57 _ _ _ _ _ (J95.2.1, J95.2.2)
theorem Sfm_trips_b57 {G : ai_G} {d M : Nat} {h0 : ai_H} {α : Type} {P : α → Option ai_R → Prop} (v1 : Int32) (v2 : Int32) (b0 : Int32) (b1 : Int32) (b2 : mS) (J : JV × JV) {r : (Int32 × mS) → Option α} (kk : ∀ (q : Int32 × mS) (J : JV × JV × JV × JV × JV × JV), Tj G (d + 3) 226 P (r q) 156 [J.1.1, J.2.1.1, J.2.2.1.1, some (.int q.1), J.2.2.2.1.1, J.2.2.2.2.1.1, J.2.2.2.2.2.1] [] (mH M q.2 h0)) : Tj G (d + 3) 226 P ((lp (fm_trips_b57 v1 v2) (b0, b1, b2)).bind r) 57 [some (.ref M), some (.int v1), some (.int v2), some (.int b0), some (.int b1), J.1.1, J.2.1] [] (mH M b2 h0) := tq_lp1 (J := J) (fun q J => wfm_trips_b57 v1 v2 q J) rfl rfl kk
theorem wfm_trips {G : ai_G} {d M : Nat} {h0 : ai_H} (s : mS) (v1 : Int32) : ∀ r, fm_trips s v1 = some r → (PmI M h0) r (ai_call G (d + 4) 226 [.ref M, .int v1] (mH M s h0)) := by
  refine tq_meth (P := (PmI M h0)) (d := (d + 3)) (Nat.le_of_ble_eq_true rfl) ?_
  show Tj G (d + 3) 226 (PmI M h0) (fm_trips s v1) 0 [some (.ref M), some (.int v1), none, none, none, none, none] [] (mH M s h0)
  unfold fm_trips
  refine tq_aload_n dX8_trips_0 rfl ?_
  refine tq_iconst (v := 0) dX8_trips_1 (by decide) ?_
  refine tm_pi dX8_trips_2 rfl rfl (fun s2 => ?_)
  refine tq_aload_n dX8_trips_5 rfl ?_
  refine tq_iload_n dX8_trips_6 rfl ?_
  refine tm_c1_i dX8_trips_7 rfl rfl rfl (Nat.le_of_ble_eq_true rfl) (wfm_isBoard (d := d + 1) _ _) (fun p7 => ?_)
  refine tq_if_ne dX8_trips_10 rfl ?_ ?_
  · refine tq_aload_n dX8_trips_15 rfl ?_
    refine tm_c0_I dX8_trips_16 rfl rfl rfl (Nat.le_of_ble_eq_true rfl) (wfm_nearLoads (d := d) _) (fun p16 => ?_)
    refine tq_istore_n (L' := [_, _, _, _, _, _, _]) dX8_trips_19 (Nat.le_of_ble_eq_true rfl) rfl ?_
    refine tq_ldc_w (v := .int 1000000) dX8_trips_20 rfl rfl ?_
    refine tq_istore_n (L' := [_, _, _, _, _, _, _]) dX8_trips_23 (Nat.le_of_ble_eq_true rfl) rfl ?_
    refine tq_iconst (v := 0) dX8_trips_24 (by decide) ?_
    refine tq_istore (L' := [_, _, _, _, _, _, _]) dX8_trips_25 (Nat.le_of_ble_eq_true rfl) rfl ?_
    refine Sfm_trips_b27 _ _ _ _ _ (⟨none, rfl⟩, ⟨none, rfl⟩) (fun q27 J27 => ?_)
    refine tq_aload_n dX8_trips_48 rfl ?_
    refine tq_iload_n dX8_trips_49 rfl ?_
    refine tm_c1_I dX8_trips_50 rfl rfl rfl (Nat.le_of_ble_eq_true rfl) (wfm_layBefore (d := d + 2) _ _) (fun p50 => ?_)
    refine tq_pop dX8_trips_53 rfl ?_
    refine tq_iconst (v := 1) dX8_trips_54 (by decide) ?_
    refine tq_istore (L' := [_, _, _, _, _, _, _]) dX8_trips_55 (Nat.le_of_ble_eq_true rfl) rfl ?_
    refine Sfm_trips_b57 _ _ _ _ _ (J27.2.1, J27.2.2) (fun q57 J57 => ?_)
    refine tq_iload_n dX8_trips_156 rfl ?_
    refine tq_ldc_w (v := .int 1000000) dX8_trips_157 rfl rfl ?_
    refine tq_icmp_ne dX8_trips_160 rfl ?_ ?_
    · refine tq_iload_n dX8_trips_167 rfl ?_
      exact tq_ireturn dX8_trips_168 rfl rfl
    · refine tq_iconst (v := (-1)) dX8_trips_163 (by decide) ?_
      refine tq_goto dX8_trips_164 rfl ?_
      exact tq_ireturn dX8_trips_168 rfl rfl
  · refine tq_iconst (v := (-1)) dX8_trips_13 (by decide) ?_
    exact tq_ireturn dX8_trips_14 rfl rfl
abbrev Pfm_stowBy_b17 (G : ai_G) (d M : Nat) (h0 : ai_H) (v1 : Int32) : (Int32 × Int32 × Int32 × mS) ⊕ ((Int32 × mS) ⊕ (Int32 × mS)) → Option ai_R → Prop := Sum.elim (fun (q : Int32 × Int32 × Int32 × mS) run => ∃ J : JV × JV, run = ai_run G (d + 1) 230 17 [some (.ref M), some (.int v1), J.1.1, some (.int q.1), some (.int q.2.1), some (.int q.2.2.1), J.2.1] [] (mH M q.2.2.2 h0)) (Sum.elim (fun (q : Int32 × mS) run => ∃ J : JV × JV × JV × JV × JV, run = ai_run G (d + 1) 230 97 [some (.ref M), J.1.1, J.2.1.1, J.2.2.1.1, some (.int q.1), J.2.2.2.1.1, J.2.2.2.2.1] [] (mH M q.2 h0)) (PmI M h0))
theorem Bfm_stowBy_b17 {G : ai_G} {d M : Nat} {h0 : ai_H} (v1 : Int32) (b0 : Int32) (b1 : Int32) (b2 : Int32) (b3 : mS) (J : JV × JV) : Tj G (d + 1) 230 (Pfm_stowBy_b17 G d M h0 v1) (some (.inl (b0, b1, b2, b3))) 17 [some (.ref M), some (.int v1), J.1.1, some (.int b0), some (.int b1), some (.int b2), J.2.1] [] (mH M b3 h0) := tq_back J rfl rfl
theorem Efm_stowBy_b17 {G : ai_G} {d M : Nat} {h0 : ai_H} (v1 : Int32) (b0 : Int32) (b1 : mS) (J : JV × JV × JV × JV × JV) : Tj G (d + 1) 230 (Pfm_stowBy_b17 G d M h0 v1) (some (.inr (.inl (b0, b1)))) 97 [some (.ref M), J.1.1, J.2.1.1, J.2.2.1.1, some (.int b0), J.2.2.2.1.1, J.2.2.2.2.1] [] (mH M b1 h0) := tq_exit2 J rfl rfl
theorem wfm_stowBy_b17 {G : ai_G} {d M : Nat} {h0 : ai_H} (v1 : Int32) (q : Int32 × Int32 × Int32 × mS) (J : JV × JV) : Tj G (d + 1) 230 (Pfm_stowBy_b17 G d M h0 v1) (fm_stowBy_b17 v1 q) 17 [some (.ref M), some (.int v1), J.1.1, some (.int q.1), some (.int q.2.1), some (.int q.2.2.1), J.2.1] [] (mH M q.2.2.2 h0) := by
  unfold fm_stowBy_b17
  refine tq_iload dX8_stowBy_17 rfl ?_
  refine tq_if_lt dX8_stowBy_19 rfl ?_ ?_
  · exact Efm_stowBy_b17 _ _ _ (⟨some (.int v1), rfl⟩, J.1, ⟨some (.int q.1), rfl⟩, ⟨some (.int q.2.2.1), rfl⟩, J.2)
  · refine tq_iload_n dX8_stowBy_22 rfl ?_
    refine tq_iconst (v := 4) dX8_stowBy_23 (by decide) ?_
    refine tq_irem dX8_stowBy_24 (fun x24 => ?_)
    refine tq_istore (L' := [_, _, _, _, _, _, _]) dX8_stowBy_25 (Nat.le_of_ble_eq_true rfl) rfl ?_
    refine tq_iload_n dX8_stowBy_27 rfl ?_
    refine tq_iconst (v := 4) dX8_stowBy_28 (by decide) ?_
    refine tq_idiv dX8_stowBy_29 (fun x29 => ?_)
    refine tq_istore_n (L' := [_, _, _, _, _, _, _]) dX8_stowBy_30 (Nat.le_of_ble_eq_true rfl) (st1_jv (i := 2) (j := J.1) rfl rfl) ?_
    refine tq_iload_n dX8_stowBy_31 rfl ?_
    refine tq_iload dX8_stowBy_32 rfl ?_
    refine tq_ishr dX8_stowBy_34 ?_
    refine tq_iconst (v := 1) dX8_stowBy_35 (by decide) ?_
    refine tq_iand dX8_stowBy_36 ?_
    refine tq_if_ne dX8_stowBy_37 rfl ?_ ?_
    · refine tq_iload dX8_stowBy_47 rfl ?_
      refine tq_aload_n dX8_stowBy_49 rfl ?_
      refine tm_gi (k9 := 48) dX8_stowBy_50 rfl rfl ?_
      refine tq_icmp_ge dX8_stowBy_53 rfl ?_ ?_
      · refine tq_iconst (v := (-1)) dX8_stowBy_68 (by decide) ?_
        exact tq_ireturn dX8_stowBy_69 rfl rfl
      · refine tq_aload_n dX8_stowBy_56 rfl ?_
        refine tm_ga (j := 22) dX8_stowBy_57 rfl rfl ?_
        refine tq_iconst (v := 4) dX8_stowBy_60 (by decide) ?_
        refine tq_iload dX8_stowBy_61 rfl ?_
        refine tq_iadd dX8_stowBy_63 ?_
        refine tm_ild dX8_stowBy_64 rfl (fun x64 => ?_)
        refine tq_if_le dX8_stowBy_65 rfl ?_ ?_
        · refine tq_aload_n dX8_stowBy_70 rfl ?_
          refine tm_ga (j := 23) dX8_stowBy_71 rfl rfl ?_
          refine tq_bipush (v := 20) dX8_stowBy_74 (by decide) ?_
          refine tq_iload dX8_stowBy_76 rfl ?_
          refine tq_iadd dX8_stowBy_78 ?_
          refine tq_iload dX8_stowBy_79 rfl ?_
          refine tm_ist dX8_stowBy_81 rfl (fun s81 => ?_)
          refine tq_iload dX8_stowBy_82 rfl ?_
          refine tq_iconst (v := 1) dX8_stowBy_84 (by decide) ?_
          refine tq_iload dX8_stowBy_85 rfl ?_
          refine tq_ishl dX8_stowBy_87 ?_
          refine tq_ior dX8_stowBy_88 ?_
          refine tq_istore (L' := [_, _, _, _, _, _, _]) dX8_stowBy_89 (Nat.le_of_ble_eq_true rfl) rfl ?_
          refine tq_iinc (v := (q.2.2.1 + (-1))) (L' := [_, _, _, _, _, _, _]) dX8_stowBy_91 rfl (Nat.le_of_ble_eq_true rfl) rfl rfl ?_
          refine tq_goto dX8_stowBy_94 rfl ?_
          exact Bfm_stowBy_b17 _ _ _ _ _ (J.1, ⟨some (.int x24), rfl⟩)
        · refine tq_iconst (v := (-1)) dX8_stowBy_68 (by decide) ?_
          exact tq_ireturn dX8_stowBy_69 rfl rfl
    · refine tq_iload dX8_stowBy_40 rfl ?_
      refine tq_if_le dX8_stowBy_42 rfl ?_ ?_
      · refine tq_iinc (v := (q.2.2.1 + (-1))) (L' := [_, _, _, _, _, _, _]) dX8_stowBy_91 rfl (Nat.le_of_ble_eq_true rfl) rfl rfl ?_
        refine tq_goto dX8_stowBy_94 rfl ?_
        exact Bfm_stowBy_b17 _ _ _ _ _ (J.1, ⟨some (.int x24), rfl⟩)
      · refine tq_iconst (v := (-1)) dX8_stowBy_45 (by decide) ?_
        exact tq_ireturn dX8_stowBy_46 rfl rfl
theorem Sfm_stowBy_b17 {G : ai_G} {d M : Nat} {h0 : ai_H} {α : Type} {P : α → Option ai_R → Prop} (v1 : Int32) (b0 : Int32) (b1 : Int32) (b2 : Int32) (b3 : mS) (J : JV × JV) {r : (Int32 × mS) → Option α} {r2 : (Int32 × mS) → Option α} (k2 : ∀ v run, (PmI M h0) v run → ∀ a, r2 v = some a → P a run) (kk : ∀ (q : Int32 × mS) (J : JV × JV × JV × JV × JV), Tj G (d + 1) 230 P (r q) 97 [some (.ref M), J.1.1, J.2.1.1, J.2.2.1.1, some (.int q.1), J.2.2.2.1.1, J.2.2.2.2.1] [] (mH M q.2 h0)) : Tj G (d + 1) 230 P ((lp (fm_stowBy_b17 v1) (b0, b1, b2, b3)).bind (Sum.elim r r2)) 17 [some (.ref M), some (.int v1), J.1.1, some (.int b0), some (.int b1), some (.int b2), J.2.1] [] (mH M b3 h0) := tq_lp2 (J := J) (fun q J => wfm_stowBy_b17 v1 q J) rfl rfl k2 kk
abbrev Pfm_stowBy_b100 (G : ai_G) (d M : Nat) (h0 : ai_H) (s : mS) (v4 : Int32) : Int32 ⊕ (Unit ⊕ (Int32 × mS)) → Option ai_R → Prop := Sum.elim (fun (q : Int32) run => ∃ J : JV × JV × JV × JV, run = ai_run G (d + 1) 230 100 [some (.ref M), J.1.1, J.2.1.1, J.2.2.1.1, some (.int v4), some (.int q), J.2.2.2.1] [] (mH M s h0)) (Sum.elim (fun (q : Unit) run => ∃ J : JV × JV × JV × JV × JV × JV, run = ai_run G (d + 1) 230 144 [J.1.1, J.2.1.1, J.2.2.1.1, J.2.2.2.1.1, some (.int v4), J.2.2.2.2.1.1, J.2.2.2.2.2.1] [] (mH M s h0)) (PmI M h0))
theorem Bfm_stowBy_b100 {G : ai_G} {d M : Nat} {h0 : ai_H} (s : mS) (v4 : Int32) (b0 : Int32) (J : JV × JV × JV × JV) : Tj G (d + 1) 230 (Pfm_stowBy_b100 G d M h0 s v4) (some (.inl b0)) 100 [some (.ref M), J.1.1, J.2.1.1, J.2.2.1.1, some (.int v4), some (.int b0), J.2.2.2.1] [] (mH M s h0) := tq_back J rfl rfl
theorem Efm_stowBy_b100 {G : ai_G} {d M : Nat} {h0 : ai_H} (s : mS) (v4 : Int32)  (J : JV × JV × JV × JV × JV × JV) : Tj G (d + 1) 230 (Pfm_stowBy_b100 G d M h0 s v4) (some (.inr (.inl ()))) 144 [J.1.1, J.2.1.1, J.2.2.1.1, J.2.2.2.1.1, some (.int v4), J.2.2.2.2.1.1, J.2.2.2.2.2.1] [] (mH M s h0) := tq_exit2 J rfl rfl
theorem wfm_stowBy_b100 {G : ai_G} {d M : Nat} {h0 : ai_H} (s : mS) (v4 : Int32) (q : Int32) (J : JV × JV × JV × JV) : Tj G (d + 1) 230 (Pfm_stowBy_b100 G d M h0 s v4) (fm_stowBy_b100 s v4 q) 100 [some (.ref M), J.1.1, J.2.1.1, J.2.2.1.1, some (.int v4), some (.int q), J.2.2.2.1] [] (mH M s h0) := by
  unfold fm_stowBy_b100
  refine tq_iload dX8_stowBy_100 rfl ?_
  refine tq_aload_n dX8_stowBy_102 rfl ?_
  refine tm_gi (k9 := 48) dX8_stowBy_103 rfl rfl ?_
  refine tq_icmp_ge dX8_stowBy_106 rfl ?_ ?_
  · exact Efm_stowBy_b100 _ _ (⟨some (.ref M), rfl⟩, J.1, J.2.1, J.2.2.1, ⟨some (.int q), rfl⟩, J.2.2.2)
  · refine tq_iload dX8_stowBy_109 rfl ?_
    refine tq_iload dX8_stowBy_111 rfl ?_
    refine tq_ishr dX8_stowBy_113 ?_
    refine tq_iconst (v := 1) dX8_stowBy_114 (by decide) ?_
    refine tq_iand dX8_stowBy_115 ?_
    refine tq_iconst (v := 1) dX8_stowBy_116 (by decide) ?_
    refine tq_icmp_ne dX8_stowBy_117 rfl ?_ ?_
    · refine tq_iinc (v := (q + 1)) (L' := [_, _, _, _, _, _, _]) dX8_stowBy_138 rfl (Nat.le_of_ble_eq_true rfl) rfl rfl ?_
      refine tq_goto dX8_stowBy_141 rfl ?_
      exact Bfm_stowBy_b100 _ _ _ (J.1, J.2.1, J.2.2.1, J.2.2.2)
    · refine tq_aload_n dX8_stowBy_120 rfl ?_
      refine tq_iload dX8_stowBy_121 rfl ?_
      refine tm_c1_i dX8_stowBy_123 rfl rfl rfl (Nat.le_of_ble_eq_true rfl) (wfm_burdenOf (d := d) _ _) (fun p123 => ?_)
      refine tq_aload_n dX8_stowBy_126 rfl ?_
      refine tm_ga (j := 18) dX8_stowBy_127 rfl rfl ?_
      refine tq_iload dX8_stowBy_130 rfl ?_
      refine tm_ild dX8_stowBy_132 rfl (fun x132 => ?_)
      refine tq_icmp_le dX8_stowBy_133 rfl ?_ ?_
      · refine tq_iinc (v := (q + 1)) (L' := [_, _, _, _, _, _, _]) dX8_stowBy_138 rfl (Nat.le_of_ble_eq_true rfl) rfl rfl ?_
        refine tq_goto dX8_stowBy_141 rfl ?_
        exact Bfm_stowBy_b100 _ _ _ (J.1, J.2.1, J.2.2.1, J.2.2.2)
      · refine tq_iconst (v := (-1)) dX8_stowBy_136 (by decide) ?_
        exact tq_ireturn dX8_stowBy_137 rfl rfl
theorem Sfm_stowBy_b100 {G : ai_G} {d M : Nat} {h0 : ai_H} {α : Type} {P : α → Option ai_R → Prop} (s : mS) (v4 : Int32) (b0 : Int32) (J : JV × JV × JV × JV) {r : Unit → Option α} {r2 : (Int32 × mS) → Option α} (k2 : ∀ v run, (PmI M h0) v run → ∀ a, r2 v = some a → P a run) (kk : ∀ (q : Unit) (J : JV × JV × JV × JV × JV × JV), Tj G (d + 1) 230 P (r q) 144 [J.1.1, J.2.1.1, J.2.2.1.1, J.2.2.2.1.1, some (.int v4), J.2.2.2.2.1.1, J.2.2.2.2.2.1] [] (mH M s h0)) : Tj G (d + 1) 230 P ((lp (fm_stowBy_b100 s v4) b0).bind (Sum.elim r r2)) 100 [some (.ref M), J.1.1, J.2.1.1, J.2.2.1.1, some (.int v4), some (.int b0), J.2.2.2.1] [] (mH M s h0) := tq_lp2 (J := J) (fun q J => wfm_stowBy_b100 s v4 q J) rfl rfl k2 kk
theorem wfm_stowBy {G : ai_G} {d M : Nat} {h0 : ai_H} (s : mS) (v1 : Int32) (v2 : Int32) : ∀ r, fm_stowBy s v1 v2 = some r → (PmI M h0) r (ai_call G (d + 2) 230 [.ref M, .int v1, .int v2] (mH M s h0)) := by
  refine tq_meth (P := (PmI M h0)) (d := (d + 1)) (Nat.le_of_ble_eq_true rfl) ?_
  show Tj G (d + 1) 230 (PmI M h0) (fm_stowBy s v1 v2) 0 [some (.ref M), some (.int v1), some (.int v2), none, none, none, none] [] (mH M s h0)
  unfold fm_stowBy
  refine tq_aload_n dX8_stowBy_0 rfl ?_
  refine tm_c0_V dX8_stowBy_1 rfl rfl rfl (Nat.le_of_ble_eq_true rfl) (wfm_fill (d := d) _) (fun p1 => ?_)
  refine tq_iload_n dX8_stowBy_4 rfl ?_
  refine tq_istore_n (L' := [_, _, _, _, _, _, _]) dX8_stowBy_5 (Nat.le_of_ble_eq_true rfl) rfl ?_
  refine tq_iconst (v := 0) dX8_stowBy_6 (by decide) ?_
  refine tq_istore (L' := [_, _, _, _, _, _, _]) dX8_stowBy_7 (Nat.le_of_ble_eq_true rfl) rfl ?_
  refine tq_aload_n dX8_stowBy_9 rfl ?_
  refine tm_gi (k9 := 49) dX8_stowBy_10 rfl rfl ?_
  refine tq_iconst (v := 1) dX8_stowBy_13 (by decide) ?_
  refine tq_isub dX8_stowBy_14 ?_
  refine tq_istore (L' := [_, _, _, _, _, _, _]) dX8_stowBy_15 (Nat.le_of_ble_eq_true rfl) rfl ?_
  refine Sfm_stowBy_b17 _ _ _ _ _ (⟨some (.int v2), rfl⟩, ⟨none, rfl⟩) (fun v run hv a ha => by cases ha; exact hv) (fun q17 J17 => ?_)
  refine tq_iconst (v := 0) dX8_stowBy_97 (by decide) ?_
  refine tq_istore (L' := [_, _, _, _, _, _, _]) dX8_stowBy_98 (Nat.le_of_ble_eq_true rfl) rfl ?_
  refine Sfm_stowBy_b100 _ _ _ (J17.1, J17.2.1, J17.2.2.1, J17.2.2.2.2) (fun v run hv a ha => by cases ha; exact hv) (fun q100 J100 => ?_)
  refine tq_iload dX8_stowBy_144 rfl ?_
  exact tq_ireturn dX8_stowBy_146 rfl rfl
abbrev Pfm_members_b4 (G : ai_G) (d : Nat) (h : ai_H) (v0 : Int32) : (Int32 × Int32) ⊕ Int32 → Option ai_R → Prop := Sum.elim (fun (q : Int32 × Int32) run => ∃ J : Unit, run = ai_run G d 231 4 [some (.int v0), some (.int q.1), some (.int q.2)] [] h) (fun (q : Int32) run => ∃ J : JV × JV, run = ai_run G d 231 24 [J.1.1, some (.int q), J.2.1] [] h)
theorem Bfm_members_b4 {G : ai_G} {d : Nat} {h : ai_H} (v0 : Int32) (b0 : Int32) (b1 : Int32) (J : Unit) : Tj G d 231 (Pfm_members_b4 G d h v0) (some (.inl (b0, b1))) 4 [some (.int v0), some (.int b0), some (.int b1)] [] h := tq_back J rfl rfl
theorem Efm_members_b4 {G : ai_G} {d : Nat} {h : ai_H} (v0 : Int32) (b0 : Int32) (J : JV × JV) : Tj G d 231 (Pfm_members_b4 G d h v0) (some (.inr b0)) 24 [J.1.1, some (.int b0), J.2.1] [] h := tq_exit J rfl rfl
theorem wfm_members_b4 {G : ai_G} {d : Nat} {h : ai_H} (v0 : Int32) (q : Int32 × Int32) (J : Unit) : Tj G d 231 (Pfm_members_b4 G d h v0) (fm_members_b4 v0 q) 4 [some (.int v0), some (.int q.1), some (.int q.2)] [] h := by
  unfold fm_members_b4
  refine tq_iload_n dX8_members_4 rfl ?_
  refine tq_bipush (v := 8) dX8_members_5 (by decide) ?_
  refine tq_icmp_ge dX8_members_7 rfl ?_ ?_
  · exact Efm_members_b4 _ _ (⟨some (.int v0), rfl⟩, ⟨some (.int q.2), rfl⟩)
  · refine tq_iload_n dX8_members_10 rfl ?_
    refine tq_iload_n dX8_members_11 rfl ?_
    refine tq_iload_n dX8_members_12 rfl ?_
    refine tq_ishr dX8_members_13 ?_
    refine tq_iconst (v := 1) dX8_members_14 (by decide) ?_
    refine tq_iand dX8_members_15 ?_
    refine tq_iadd dX8_members_16 ?_
    refine tq_istore_n (L' := [_, _, _]) dX8_members_17 (Nat.le_of_ble_eq_true rfl) rfl ?_
    refine tq_iinc (v := (q.2 + 1)) (L' := [_, _, _]) dX8_members_18 rfl (Nat.le_of_ble_eq_true rfl) rfl rfl ?_
    refine tq_goto dX8_members_21 rfl ?_
    exact Bfm_members_b4 _ _ _ ()
theorem Sfm_members_b4 {G : ai_G} {d : Nat} {h : ai_H} {α : Type} {P : α → Option ai_R → Prop} (v0 : Int32) (b0 : Int32) (b1 : Int32) (J : Unit) {r : Int32 → Option α} (kk : ∀ (q : Int32) (J : JV × JV), Tj G d 231 P (r q) 24 [J.1.1, some (.int q), J.2.1] [] h) : Tj G d 231 P ((lp (fm_members_b4 v0) (b0, b1)).bind r) 4 [some (.int v0), some (.int b0), some (.int b1)] [] h := tq_lp1 (J := J) (fun q J => wfm_members_b4 v0 q J) rfl rfl kk
theorem wfm_members {G : ai_G} {d : Nat} {h : ai_H} (v0 : Int32) : ∀ r, fm_members v0 = some r → (Pi h) r (ai_call G (d + 1) 231 [.int v0] h) := by
  refine tq_meth (P := (Pi h)) (d := d) (Nat.le_of_ble_eq_true rfl) ?_
  show Tj G d 231 (Pi h) (fm_members v0) 0 [some (.int v0), none, none] [] h
  unfold fm_members
  refine tq_iconst (v := 0) dX8_members_0 (by decide) ?_
  refine tq_istore_n (L' := [_, _, _]) dX8_members_1 (Nat.le_of_ble_eq_true rfl) rfl ?_
  refine tq_iconst (v := 0) dX8_members_2 (by decide) ?_
  refine tq_istore_n (L' := [_, _, _]) dX8_members_3 (Nat.le_of_ble_eq_true rfl) rfl ?_
  refine Sfm_members_b4 _ _ _ () (fun q4 J4 => ?_)
  refine tq_iload_n dX8_members_24 rfl ?_
  exact tq_ireturn dX8_members_25 rfl rfl
abbrev Pfm_stowing_b16 (G : ai_G) (d M : Nat) (h0 : ai_H) (v1 : Int32) : (Int32 × Int32 × mS) ⊕ (Int32 × mS) → Option ai_R → Prop := Sum.elim (fun (q : Int32 × Int32 × mS) run => ∃ J : JV × JV, run = ai_run G (d + 3) 232 16 [some (.ref M), some (.int v1), some (.int q.1), some (.int q.2.1), J.1.1, J.2.1] [] (mH M q.2.2 h0)) (fun (q : Int32 × mS) run => ∃ J : JV × JV × JV × JV × JV, run = ai_run G (d + 3) 232 122 [J.1.1, J.2.1.1, some (.int q.1), J.2.2.1.1, J.2.2.2.1.1, J.2.2.2.2.1] [] (mH M q.2 h0))
theorem Bfm_stowing_b16 {G : ai_G} {d M : Nat} {h0 : ai_H} (v1 : Int32) (b0 : Int32) (b1 : Int32) (b2 : mS) (J : JV × JV) : Tj G (d + 3) 232 (Pfm_stowing_b16 G d M h0 v1) (some (.inl (b0, b1, b2))) 16 [some (.ref M), some (.int v1), some (.int b0), some (.int b1), J.1.1, J.2.1] [] (mH M b2 h0) := tq_back J rfl rfl
theorem Efm_stowing_b16 {G : ai_G} {d M : Nat} {h0 : ai_H} (v1 : Int32) (b0 : Int32) (b1 : mS) (J : JV × JV × JV × JV × JV) : Tj G (d + 3) 232 (Pfm_stowing_b16 G d M h0 v1) (some (.inr (b0, b1))) 122 [J.1.1, J.2.1.1, some (.int b0), J.2.2.1.1, J.2.2.2.1.1, J.2.2.2.2.1] [] (mH M b1 h0) := tq_exit J rfl rfl
abbrev Pfm_stowing_b62 (G : ai_G) (d M : Nat) (h0 : ai_H) (v1 : Int32) (v2 : Int32) (v3 : Int32) : (Int32 × mS) ⊕ mS → Option ai_R → Prop := Sum.elim (fun (q : Int32 × mS) run => ∃ J : JV, run = ai_run G (d + 3) 232 62 [some (.ref M), some (.int v1), some (.int v2), some (.int v3), J.1, some (.int q.1)] [] (mH M q.2 h0)) (fun (q : mS) run => ∃ J : JV × JV, run = ai_run G (d + 3) 232 108 [some (.ref M), some (.int v1), some (.int v2), some (.int v3), J.1.1, J.2.1] [] (mH M q h0))
theorem Bfm_stowing_b62 {G : ai_G} {d M : Nat} {h0 : ai_H} (v1 : Int32) (v2 : Int32) (v3 : Int32) (b0 : Int32) (b1 : mS) (J : JV) : Tj G (d + 3) 232 (Pfm_stowing_b62 G d M h0 v1 v2 v3) (some (.inl (b0, b1))) 62 [some (.ref M), some (.int v1), some (.int v2), some (.int v3), J.1, some (.int b0)] [] (mH M b1 h0) := tq_back J rfl rfl
theorem Efm_stowing_b62 {G : ai_G} {d M : Nat} {h0 : ai_H} (v1 : Int32) (v2 : Int32) (v3 : Int32) (b0 : mS) (J : JV × JV) : Tj G (d + 3) 232 (Pfm_stowing_b62 G d M h0 v1 v2 v3) (some (.inr b0)) 108 [some (.ref M), some (.int v1), some (.int v2), some (.int v3), J.1.1, J.2.1] [] (mH M b0 h0) := tq_exit J rfl rfl
theorem wfm_stowing_b62 {G : ai_G} {d M : Nat} {h0 : ai_H} (v1 : Int32) (v2 : Int32) (v3 : Int32) (q : Int32 × mS) (J : JV) : Tj G (d + 3) 232 (Pfm_stowing_b62 G d M h0 v1 v2 v3) (fm_stowing_b62 v1 v2 v3 q) 62 [some (.ref M), some (.int v1), some (.int v2), some (.int v3), J.1, some (.int q.1)] [] (mH M q.2 h0) := by
  unfold fm_stowing_b62
  refine tq_iload dX8_stowing_62 rfl ?_
  refine tq_aload_n dX8_stowing_64 rfl ?_
  refine tm_gi (k9 := 49) dX8_stowing_65 rfl rfl ?_
  refine tq_icmp_ge dX8_stowing_68 rfl ?_ ?_
  · exact Efm_stowing_b62 _ _ _ _ (J, ⟨some (.int q.1), rfl⟩)
  · refine tq_aload_n dX8_stowing_71 rfl ?_
    refine tm_ga (j := 26) dX8_stowing_72 rfl rfl ?_
    refine tq_iload dX8_stowing_75 rfl ?_
    refine tq_iload_n dX8_stowing_77 rfl ?_
    refine tq_iload dX8_stowing_78 rfl ?_
    refine tq_ishr dX8_stowing_80 ?_
    refine tq_iconst (v := 1) dX8_stowing_81 (by decide) ?_
    refine tq_iand dX8_stowing_82 ?_
    refine tq_iconst (v := 1) dX8_stowing_83 (by decide) ?_
    refine tq_icmp_ne dX8_stowing_84 rfl ?_ ?_
    · refine tq_iconst (v := (-1)) dX8_stowing_100 (by decide) ?_
      refine tm_ist dX8_stowing_101 rfl (fun s101 => ?_)
      refine tq_iinc (v := (q.1 + 1)) (L' := [_, _, _, _, _, _]) dX8_stowing_102 rfl (Nat.le_of_ble_eq_true rfl) rfl (st1_jv (i := 4) (j := J) rfl rfl) ?_
      refine tq_goto dX8_stowing_105 rfl ?_
      exact Bfm_stowing_b62 _ _ _ _ _ J
    · refine tq_aload_n dX8_stowing_87 rfl ?_
      refine tm_ga (j := 23) dX8_stowing_88 rfl rfl ?_
      refine tq_bipush (v := 20) dX8_stowing_91 (by decide) ?_
      refine tq_iload dX8_stowing_93 rfl ?_
      refine tq_iadd dX8_stowing_95 ?_
      refine tm_ild dX8_stowing_96 rfl (fun x96 => ?_)
      refine tq_goto dX8_stowing_97 rfl ?_
      refine tm_ist dX8_stowing_101 rfl (fun s101 => ?_)
      refine tq_iinc (v := (q.1 + 1)) (L' := [_, _, _, _, _, _]) dX8_stowing_102 rfl (Nat.le_of_ble_eq_true rfl) rfl (st1_jv (i := 4) (j := J) rfl rfl) ?_
      refine tq_goto dX8_stowing_105 rfl ?_
      exact Bfm_stowing_b62 _ _ _ _ _ J
theorem Sfm_stowing_b62 {G : ai_G} {d M : Nat} {h0 : ai_H} {α : Type} {P : α → Option ai_R → Prop} (v1 : Int32) (v2 : Int32) (v3 : Int32) (b0 : Int32) (b1 : mS) (J : JV) {r : mS → Option α} (kk : ∀ (q : mS) (J : JV × JV), Tj G (d + 3) 232 P (r q) 108 [some (.ref M), some (.int v1), some (.int v2), some (.int v3), J.1.1, J.2.1] [] (mH M q h0)) : Tj G (d + 3) 232 P ((lp (fm_stowing_b62 v1 v2 v3) (b0, b1)).bind r) 62 [some (.ref M), some (.int v1), some (.int v2), some (.int v3), J.1, some (.int b0)] [] (mH M b1 h0) := tq_lp1 (J := J) (fun q J => wfm_stowing_b62 v1 v2 v3 q J) rfl rfl kk
theorem wfm_stowing_b16 {G : ai_G} {d M : Nat} {h0 : ai_H} (v1 : Int32) (q : Int32 × Int32 × mS) (J : JV × JV) : Tj G (d + 3) 232 (Pfm_stowing_b16 G d M h0 v1) (fm_stowing_b16 v1 q) 16 [some (.ref M), some (.int v1), some (.int q.1), some (.int q.2.1), J.1.1, J.2.1] [] (mH M q.2.2 h0) := by
  unfold fm_stowing_b16
  refine tq_iload_n dX8_stowing_16 rfl ?_
  refine tq_iconst (v := 4) dX8_stowing_17 (by decide) ?_
  refine tq_aload_n dX8_stowing_18 rfl ?_
  refine tm_gi (k9 := 49) dX8_stowing_19 rfl rfl ?_
  refine ts_c2_i dX8_stowing_22 rfl rfl rfl (Nat.le_of_ble_eq_true rfl) (wfm_power (d := d + 2) _ _) (fun p22 => ?_)
  refine tq_icmp_ge dX8_stowing_25 rfl ?_ ?_
  · exact Efm_stowing_b16 _ _ _ (⟨some (.ref M), rfl⟩, ⟨some (.int v1), rfl⟩, ⟨some (.int q.2.1), rfl⟩, J.1, J.2)
  · refine tq_aload_n dX8_stowing_28 rfl ?_
    refine tq_iload_n dX8_stowing_29 rfl ?_
    refine tq_iload_n dX8_stowing_30 rfl ?_
    refine tm_c2_I dX8_stowing_31 rfl rfl rfl (Nat.le_of_ble_eq_true rfl) (wfm_stowBy (d := d + 1) _ _ _) (fun p31 => ?_)
    refine tq_istore (L' := [_, _, _, _, _, _]) dX8_stowing_34 (Nat.le_of_ble_eq_true rfl) rfl ?_
    refine tq_iload dX8_stowing_36 rfl ?_
    refine tq_if_lt dX8_stowing_38 rfl ?_ ?_
    · refine tq_iinc (v := (q.2.1 + 1)) (L' := [_, _, _, _, _, _]) dX8_stowing_116 rfl (Nat.le_of_ble_eq_true rfl) rfl rfl ?_
      refine tq_goto dX8_stowing_119 rfl ?_
      exact Bfm_stowing_b16 _ _ _ _ (⟨some (.int p31.1), rfl⟩, J.2)
    · refine tq_iload dX8_stowing_41 rfl ?_
      refine ts_c1_i dX8_stowing_43 rfl rfl rfl (Nat.le_of_ble_eq_true rfl) (wfm_members (d := d + 2) _) (fun p43 => ?_)
      refine tq_iload_n dX8_stowing_46 rfl ?_
      refine tq_icmp_lt dX8_stowing_47 rfl ?_ ?_
      · refine tq_iload dX8_stowing_53 rfl ?_
        refine ts_c1_i dX8_stowing_55 rfl rfl rfl (Nat.le_of_ble_eq_true rfl) (wfm_members (d := d + 2) _) (fun p55 => ?_)
        refine tq_istore_n (L' := [_, _, _, _, _, _]) dX8_stowing_58 (Nat.le_of_ble_eq_true rfl) rfl ?_
        refine tq_iconst (v := 0) dX8_stowing_59 (by decide) ?_
        refine tq_istore (L' := [_, _, _, _, _, _]) dX8_stowing_60 (Nat.le_of_ble_eq_true rfl) rfl ?_
        refine Sfm_stowing_b62 _ _ _ _ _ ⟨some (.int p31.1), rfl⟩ (fun q62 J62 => ?_)
        refine tq_aload_n dX8_stowing_108 rfl ?_
        refine tq_aload_n dX8_stowing_109 rfl ?_
        refine tm_gi (k9 := 49) dX8_stowing_110 rfl rfl ?_
        refine tm_pi dX8_stowing_113 rfl rfl (fun s113 => ?_)
        refine tq_iinc (v := (q.2.1 + 1)) (L' := [_, _, _, _, _, _]) dX8_stowing_116 rfl (Nat.le_of_ble_eq_true rfl) rfl rfl ?_
        refine tq_goto dX8_stowing_119 rfl ?_
        exact Bfm_stowing_b16 _ _ _ _ (J62.1, J62.2)
      · refine tq_goto dX8_stowing_50 rfl ?_
        refine tq_iinc (v := (q.2.1 + 1)) (L' := [_, _, _, _, _, _]) dX8_stowing_116 rfl (Nat.le_of_ble_eq_true rfl) rfl rfl ?_
        refine tq_goto dX8_stowing_119 rfl ?_
        exact Bfm_stowing_b16 _ _ _ _ (⟨some (.int p31.1), rfl⟩, J.2)
theorem Sfm_stowing_b16 {G : ai_G} {d M : Nat} {h0 : ai_H} {α : Type} {P : α → Option ai_R → Prop} (v1 : Int32) (b0 : Int32) (b1 : Int32) (b2 : mS) (J : JV × JV) {r : (Int32 × mS) → Option α} (kk : ∀ (q : Int32 × mS) (J : JV × JV × JV × JV × JV), Tj G (d + 3) 232 P (r q) 122 [J.1.1, J.2.1.1, some (.int q.1), J.2.2.1.1, J.2.2.2.1.1, J.2.2.2.2.1] [] (mH M q.2 h0)) : Tj G (d + 3) 232 P ((lp (fm_stowing_b16 v1) (b0, b1, b2)).bind r) 16 [some (.ref M), some (.int v1), some (.int b0), some (.int b1), J.1.1, J.2.1] [] (mH M b2 h0) := tq_lp1 (J := J) (fun q J => wfm_stowing_b16 v1 q J) rfl rfl kk
theorem wfm_stowing {G : ai_G} {d M : Nat} {h0 : ai_H} (s : mS) : ∀ r, fm_stowing s = some r → (PmI M h0) r (ai_call G (d + 4) 232 [.ref M] (mH M s h0)) := by
  refine tq_meth (P := (PmI M h0)) (d := (d + 3)) (Nat.le_of_ble_eq_true rfl) ?_
  show Tj G (d + 3) 232 (PmI M h0) (fm_stowing s) 0 [some (.ref M), none, none, none, none, none] [] (mH M s h0)
  unfold fm_stowing
  refine tq_aload_n dX8_stowing_0 rfl ?_
  refine tq_iconst (v := 0) dX8_stowing_1 (by decide) ?_
  refine tm_pi dX8_stowing_2 rfl rfl (fun s2 => ?_)
  refine tq_aload_n dX8_stowing_5 rfl ?_
  refine tm_c0_I dX8_stowing_6 rfl rfl rfl (Nat.le_of_ble_eq_true rfl) (wfm_nearLoads (d := d) _) (fun p6 => ?_)
  refine tq_istore_n (L' := [_, _, _, _, _, _]) dX8_stowing_9 (Nat.le_of_ble_eq_true rfl) rfl ?_
  refine tq_ldc_w (v := .int 1000000) dX8_stowing_10 rfl rfl ?_
  refine tq_istore_n (L' := [_, _, _, _, _, _]) dX8_stowing_13 (Nat.le_of_ble_eq_true rfl) rfl ?_
  refine tq_iconst (v := 0) dX8_stowing_14 (by decide) ?_
  refine tq_istore_n (L' := [_, _, _, _, _, _]) dX8_stowing_15 (Nat.le_of_ble_eq_true rfl) rfl ?_
  refine Sfm_stowing_b16 _ _ _ _ (⟨none, rfl⟩, ⟨none, rfl⟩) (fun q16 J16 => ?_)
  refine tq_iload_n dX8_stowing_122 rfl ?_
  refine tq_ldc_w (v := .int 1000000) dX8_stowing_123 rfl rfl ?_
  refine tq_icmp_ne dX8_stowing_126 rfl ?_ ?_
  · refine tq_iload_n dX8_stowing_133 rfl ?_
    exact tq_ireturn dX8_stowing_134 rfl rfl
  · refine tq_iconst (v := (-1)) dX8_stowing_129 (by decide) ?_
    refine tq_goto dX8_stowing_130 rfl ?_
    exact tq_ireturn dX8_stowing_134 rfl rfl
theorem wfm_plain {G : ai_G} {d : Nat} {h : ai_H} (v0 : Int32) : ∀ r, fm_plain v0 = some r → (Pi h) r (ai_call G (d + 1) 237 [.int v0] h) := by
  refine tq_meth (P := (Pi h)) (d := d) (Nat.le_of_ble_eq_true rfl) ?_
  show Tj G d 237 (Pi h) (fm_plain v0) 0 [some (.int v0)] [] h
  unfold fm_plain
  refine tq_iload_n dX8_plain_0 rfl ?_
  refine tq_if_ge dX8_plain_1 rfl ?_ ?_
  · refine tq_iload_n dX8_plain_9 rfl ?_
    exact tq_ireturn dX8_plain_10 rfl rfl
  · refine tq_iload_n dX8_plain_4 rfl ?_
    refine tq_ineg dX8_plain_5 ?_
    refine tq_goto dX8_plain_6 rfl ?_
    exact tq_ireturn dX8_plain_10 rfl rfl
abbrev Pfm_areBeside_b4 (G : ai_G) (d M : Nat) (h0 : ai_H) (s : mS) : (Int32 × Int32) ⊕ Int32 → Option ai_R → Prop := Sum.elim (fun (q : Int32 × Int32) run => ∃ J : Unit, run = ai_run G (d + 1) 238 4 [some (.ref M), some (.int q.1), some (.int q.2)] [] (mH M s h0)) (fun (q : Int32) run => ∃ J : JV × JV, run = ai_run G (d + 1) 238 51 [J.1.1, some (.int q), J.2.1] [] (mH M s h0))
theorem Bfm_areBeside_b4 {G : ai_G} {d M : Nat} {h0 : ai_H} (s : mS) (b0 : Int32) (b1 : Int32) (J : Unit) : Tj G (d + 1) 238 (Pfm_areBeside_b4 G d M h0 s) (some (.inl (b0, b1))) 4 [some (.ref M), some (.int b0), some (.int b1)] [] (mH M s h0) := tq_back J rfl rfl
theorem Efm_areBeside_b4 {G : ai_G} {d M : Nat} {h0 : ai_H} (s : mS) (b0 : Int32) (J : JV × JV) : Tj G (d + 1) 238 (Pfm_areBeside_b4 G d M h0 s) (some (.inr b0)) 51 [J.1.1, some (.int b0), J.2.1] [] (mH M s h0) := tq_exit J rfl rfl
theorem wfm_areBeside_b4 {G : ai_G} {d M : Nat} {h0 : ai_H} (s : mS) (q : Int32 × Int32) (J : Unit) : Tj G (d + 1) 238 (Pfm_areBeside_b4 G d M h0 s) (fm_areBeside_b4 s q) 4 [some (.ref M), some (.int q.1), some (.int q.2)] [] (mH M s h0) := by
  unfold fm_areBeside_b4
  refine tq_iload_n dX8_areBeside_4 rfl ?_
  refine tq_bipush (v := 64) dX8_areBeside_5 (by decide) ?_
  refine tq_icmp_ge dX8_areBeside_7 rfl ?_ ?_
  · exact Efm_areBeside_b4 _ _ (⟨some (.ref M), rfl⟩, ⟨some (.int q.2), rfl⟩)
  · refine tq_iload_n dX8_areBeside_10 rfl ?_
    refine tq_if_ne dX8_areBeside_11 rfl ?_ ?_
    · refine tq_iconst (v := 1) dX8_areBeside_39 (by decide) ?_
      refine tq_goto dX8_areBeside_40 rfl ?_
      refine tq_istore_n (L' := [_, _, _]) dX8_areBeside_44 (Nat.le_of_ble_eq_true rfl) rfl ?_
      refine tq_iinc (v := (q.2 + 1)) (L' := [_, _, _]) dX8_areBeside_45 rfl (Nat.le_of_ble_eq_true rfl) rfl rfl ?_
      refine tq_goto dX8_areBeside_48 rfl ?_
      exact Bfm_areBeside_b4 _ _ _ ()
    · refine tq_aload_n dX8_areBeside_14 rfl ?_
      refine tm_ga (j := 30) dX8_areBeside_15 rfl rfl ?_
      refine tq_iload_n dX8_areBeside_18 rfl ?_
      refine tm_bld dX8_areBeside_19 rfl (fun x19 => ?_)
      refine tq_if_eq dX8_areBeside_20 rfl ?_ ?_
      · refine tq_iconst (v := 0) dX8_areBeside_43 (by decide) ?_
        refine tq_istore_n (L' := [_, _, _]) dX8_areBeside_44 (Nat.le_of_ble_eq_true rfl) rfl ?_
        refine tq_iinc (v := (q.2 + 1)) (L' := [_, _, _]) dX8_areBeside_45 rfl (Nat.le_of_ble_eq_true rfl) rfl rfl ?_
        refine tq_goto dX8_areBeside_48 rfl ?_
        exact Bfm_areBeside_b4 _ _ _ ()
      · refine tq_iload_n dX8_areBeside_23 rfl ?_
        refine tq_bipush (v := 8) dX8_areBeside_24 (by decide) ?_
        refine tq_idiv dX8_areBeside_26 (fun x26 => ?_)
        refine tq_iload_n dX8_areBeside_27 rfl ?_
        refine tq_bipush (v := 8) dX8_areBeside_28 (by decide) ?_
        refine tq_irem dX8_areBeside_30 (fun x30 => ?_)
        refine tq_isub dX8_areBeside_31 ?_
        refine ts_c1_i dX8_areBeside_32 rfl rfl rfl (Nat.le_of_ble_eq_true rfl) (wfm_plain (d := d) _) (fun p32 => ?_)
        refine tq_iconst (v := 1) dX8_areBeside_35 (by decide) ?_
        refine tq_icmp_ne dX8_areBeside_36 rfl ?_ ?_
        · refine tq_iconst (v := 0) dX8_areBeside_43 (by decide) ?_
          refine tq_istore_n (L' := [_, _, _]) dX8_areBeside_44 (Nat.le_of_ble_eq_true rfl) rfl ?_
          refine tq_iinc (v := (q.2 + 1)) (L' := [_, _, _]) dX8_areBeside_45 rfl (Nat.le_of_ble_eq_true rfl) rfl rfl ?_
          refine tq_goto dX8_areBeside_48 rfl ?_
          exact Bfm_areBeside_b4 _ _ _ ()
        · refine tq_iconst (v := 1) dX8_areBeside_39 (by decide) ?_
          refine tq_goto dX8_areBeside_40 rfl ?_
          refine tq_istore_n (L' := [_, _, _]) dX8_areBeside_44 (Nat.le_of_ble_eq_true rfl) rfl ?_
          refine tq_iinc (v := (q.2 + 1)) (L' := [_, _, _]) dX8_areBeside_45 rfl (Nat.le_of_ble_eq_true rfl) rfl rfl ?_
          refine tq_goto dX8_areBeside_48 rfl ?_
          exact Bfm_areBeside_b4 _ _ _ ()
theorem Sfm_areBeside_b4 {G : ai_G} {d M : Nat} {h0 : ai_H} {α : Type} {P : α → Option ai_R → Prop} (s : mS) (b0 : Int32) (b1 : Int32) (J : Unit) {r : Int32 → Option α} (kk : ∀ (q : Int32) (J : JV × JV), Tj G (d + 1) 238 P (r q) 51 [J.1.1, some (.int q), J.2.1] [] (mH M s h0)) : Tj G (d + 1) 238 P ((lp (fm_areBeside_b4 s) (b0, b1)).bind r) 4 [some (.ref M), some (.int b0), some (.int b1)] [] (mH M s h0) := tq_lp1 (J := J) (fun q J => wfm_areBeside_b4 s q J) rfl rfl kk
theorem wfm_areBeside {G : ai_G} {d M : Nat} {h0 : ai_H} (s : mS) : ∀ r, fm_areBeside s = some r → (Pi (mH M s h0)) r (ai_call G (d + 2) 238 [.ref M] (mH M s h0)) := by
  refine tq_meth (P := (Pi (mH M s h0))) (d := (d + 1)) (Nat.le_of_ble_eq_true rfl) ?_
  show Tj G (d + 1) 238 (Pi (mH M s h0)) (fm_areBeside s) 0 [some (.ref M), none, none] [] (mH M s h0)
  unfold fm_areBeside
  refine tq_iconst (v := 0) dX8_areBeside_0 (by decide) ?_
  refine tq_istore_n (L' := [_, _, _]) dX8_areBeside_1 (Nat.le_of_ble_eq_true rfl) rfl ?_
  refine tq_iconst (v := 0) dX8_areBeside_2 (by decide) ?_
  refine tq_istore_n (L' := [_, _, _]) dX8_areBeside_3 (Nat.le_of_ble_eq_true rfl) rfl ?_
  refine Sfm_areBeside_b4 _ _ _ () (fun q4 J4 => ?_)
  refine tq_iload_n dX8_areBeside_51 rfl ?_
  exact tq_iretB dX8_areBeside_52 rfl rfl rfl
abbrev Pfm_goBoth_b2 (G : ai_G) (d M : Nat) (h0 : ai_H) (v1 : Int32) : (Int32 × mS) ⊕ mS → Option ai_R → Prop := Sum.elim (fun (q : Int32 × mS) run => ∃ J : JV × JV × JV, run = ai_run G (d + 2) 239 2 [some (.ref M), some (.int v1), some (.int q.1), J.1.1, J.2.1.1, J.2.2.1] [] (mH M q.2 h0)) (fun (q : mS) run => ∃ J : JV × JV × JV × JV, run = ai_run G (d + 2) 239 21 [some (.ref M), some (.int v1), J.1.1, J.2.1.1, J.2.2.1.1, J.2.2.2.1] [] (mH M q h0))
theorem Bfm_goBoth_b2 {G : ai_G} {d M : Nat} {h0 : ai_H} (v1 : Int32) (b0 : Int32) (b1 : mS) (J : JV × JV × JV) : Tj G (d + 2) 239 (Pfm_goBoth_b2 G d M h0 v1) (some (.inl (b0, b1))) 2 [some (.ref M), some (.int v1), some (.int b0), J.1.1, J.2.1.1, J.2.2.1] [] (mH M b1 h0) := tq_back J rfl rfl
theorem Efm_goBoth_b2 {G : ai_G} {d M : Nat} {h0 : ai_H} (v1 : Int32) (b0 : mS) (J : JV × JV × JV × JV) : Tj G (d + 2) 239 (Pfm_goBoth_b2 G d M h0 v1) (some (.inr b0)) 21 [some (.ref M), some (.int v1), J.1.1, J.2.1.1, J.2.2.1.1, J.2.2.2.1] [] (mH M b0 h0) := tq_exit J rfl rfl
theorem wfm_goBoth_b2 {G : ai_G} {d M : Nat} {h0 : ai_H} (v1 : Int32) (q : Int32 × mS) (J : JV × JV × JV) : Tj G (d + 2) 239 (Pfm_goBoth_b2 G d M h0 v1) (fm_goBoth_b2 v1 q) 2 [some (.ref M), some (.int v1), some (.int q.1), J.1.1, J.2.1.1, J.2.2.1] [] (mH M q.2 h0) := by
  unfold fm_goBoth_b2
  refine tq_iload_n dX8_goBoth_2 rfl ?_
  refine tq_bipush (v := 64) dX8_goBoth_3 (by decide) ?_
  refine tq_icmp_ge dX8_goBoth_5 rfl ?_ ?_
  · exact Efm_goBoth_b2 _ _ (⟨some (.int q.1), rfl⟩, J.1, J.2.1, J.2.2)
  · refine tq_aload_n dX8_goBoth_8 rfl ?_
    refine tm_ga (j := 31) dX8_goBoth_9 rfl rfl ?_
    refine tq_iload_n dX8_goBoth_12 rfl ?_
    refine tq_iconst (v := 0) dX8_goBoth_13 (by decide) ?_
    refine tm_bst dX8_goBoth_14 rfl (fun s14 => ?_)
    refine tq_iinc (v := (q.1 + 1)) (L' := [_, _, _, _, _, _]) dX8_goBoth_15 rfl (Nat.le_of_ble_eq_true rfl) rfl rfl ?_
    refine tq_goto dX8_goBoth_18 rfl ?_
    exact Bfm_goBoth_b2 _ _ _ (J.1, J.2.1, J.2.2)
theorem Sfm_goBoth_b2 {G : ai_G} {d M : Nat} {h0 : ai_H} {α : Type} {P : α → Option ai_R → Prop} (v1 : Int32) (b0 : Int32) (b1 : mS) (J : JV × JV × JV) {r : mS → Option α} (kk : ∀ (q : mS) (J : JV × JV × JV × JV), Tj G (d + 2) 239 P (r q) 21 [some (.ref M), some (.int v1), J.1.1, J.2.1.1, J.2.2.1.1, J.2.2.2.1] [] (mH M q h0)) : Tj G (d + 2) 239 P ((lp (fm_goBoth_b2 v1) (b0, b1)).bind r) 2 [some (.ref M), some (.int v1), some (.int b0), J.1.1, J.2.1.1, J.2.2.1] [] (mH M b1 h0) := tq_lp1 (J := J) (fun q J => wfm_goBoth_b2 v1 q J) rfl rfl kk
abbrev Pfm_goBoth_b23 (G : ai_G) (d M : Nat) (h0 : ai_H) (v1 : Int32) : (Int32 × mS) ⊕ mS → Option ai_R → Prop := Sum.elim (fun (q : Int32 × mS) run => ∃ J : JV × JV × JV, run = ai_run G (d + 2) 239 23 [some (.ref M), some (.int v1), some (.int q.1), J.1.1, J.2.1.1, J.2.2.1] [] (mH M q.2 h0)) (fun (q : mS) run => ∃ J : JV × JV × JV × JV × JV, run = ai_run G (d + 2) 239 130 [some (.ref M), J.1.1, J.2.1.1, J.2.2.1.1, J.2.2.2.1.1, J.2.2.2.2.1] [] (mH M q h0))
theorem Bfm_goBoth_b23 {G : ai_G} {d M : Nat} {h0 : ai_H} (v1 : Int32) (b0 : Int32) (b1 : mS) (J : JV × JV × JV) : Tj G (d + 2) 239 (Pfm_goBoth_b23 G d M h0 v1) (some (.inl (b0, b1))) 23 [some (.ref M), some (.int v1), some (.int b0), J.1.1, J.2.1.1, J.2.2.1] [] (mH M b1 h0) := tq_back J rfl rfl
theorem Efm_goBoth_b23 {G : ai_G} {d M : Nat} {h0 : ai_H} (v1 : Int32) (b0 : mS) (J : JV × JV × JV × JV × JV) : Tj G (d + 2) 239 (Pfm_goBoth_b23 G d M h0 v1) (some (.inr b0)) 130 [some (.ref M), J.1.1, J.2.1.1, J.2.2.1.1, J.2.2.2.1.1, J.2.2.2.2.1] [] (mH M b0 h0) := tq_exit J rfl rfl
abbrev Pfm_goBoth_b31 (G : ai_G) (d M : Nat) (h0 : ai_H) (v1 : Int32) (v2 : Int32) : (Int32 × mS) ⊕ mS → Option ai_R → Prop := Sum.elim (fun (q : Int32 × mS) run => ∃ J : JV × JV, run = ai_run G (d + 2) 239 31 [some (.ref M), some (.int v1), some (.int v2), some (.int q.1), J.1.1, J.2.1] [] (mH M q.2 h0)) (fun (q : mS) run => ∃ J : JV × JV × JV, run = ai_run G (d + 2) 239 124 [some (.ref M), some (.int v1), some (.int v2), J.1.1, J.2.1.1, J.2.2.1] [] (mH M q h0))
theorem Bfm_goBoth_b31 {G : ai_G} {d M : Nat} {h0 : ai_H} (v1 : Int32) (v2 : Int32) (b0 : Int32) (b1 : mS) (J : JV × JV) : Tj G (d + 2) 239 (Pfm_goBoth_b31 G d M h0 v1 v2) (some (.inl (b0, b1))) 31 [some (.ref M), some (.int v1), some (.int v2), some (.int b0), J.1.1, J.2.1] [] (mH M b1 h0) := tq_back J rfl rfl
theorem Efm_goBoth_b31 {G : ai_G} {d M : Nat} {h0 : ai_H} (v1 : Int32) (v2 : Int32) (b0 : mS) (J : JV × JV × JV) : Tj G (d + 2) 239 (Pfm_goBoth_b31 G d M h0 v1 v2) (some (.inr b0)) 124 [some (.ref M), some (.int v1), some (.int v2), J.1.1, J.2.1.1, J.2.2.1] [] (mH M b0 h0) := tq_exit J rfl rfl
theorem wfm_goBoth_b31 {G : ai_G} {d M : Nat} {h0 : ai_H} (v1 : Int32) (v2 : Int32) (q : Int32 × mS) (J : JV × JV) : Tj G (d + 2) 239 (Pfm_goBoth_b31 G d M h0 v1 v2) (fm_goBoth_b31 v1 v2 q) 31 [some (.ref M), some (.int v1), some (.int v2), some (.int q.1), J.1.1, J.2.1] [] (mH M q.2 h0) := by
  unfold fm_goBoth_b31
  refine tq_iload_n dX8_goBoth_31 rfl ?_
  refine tq_bipush (v := 9) dX8_goBoth_32 (by decide) ?_
  refine tq_icmp_ge dX8_goBoth_34 rfl ?_ ?_
  · exact Efm_goBoth_b31 _ _ _ (⟨some (.int q.1), rfl⟩, J.1, J.2)
  · refine tq_aload_n dX8_goBoth_37 rfl ?_
    refine tm_ga (j := 30) dX8_goBoth_38 rfl rfl ?_
    refine tq_iload_n dX8_goBoth_41 rfl ?_
    refine tm_bld dX8_goBoth_42 rfl (fun x42 => ?_)
    refine tq_if_eq dX8_goBoth_43 rfl ?_ ?_
    · exact Efm_goBoth_b31 _ _ _ (⟨some (.int q.1), rfl⟩, J.1, J.2)
    · refine tq_aload_n dX8_goBoth_46 rfl ?_
      refine tq_iload_n dX8_goBoth_47 rfl ?_
      refine tq_bipush (v := 8) dX8_goBoth_48 (by decide) ?_
      refine tq_idiv dX8_goBoth_50 (fun x50 => ?_)
      refine tq_iload_n dX8_goBoth_51 rfl ?_
      refine tq_iload_n dX8_goBoth_52 rfl ?_
      refine tq_iconst (v := 3) dX8_goBoth_53 (by decide) ?_
      refine tq_idiv dX8_goBoth_54 (fun x54 => ?_)
      refine tq_iconst (v := 1) dX8_goBoth_55 (by decide) ?_
      refine tq_isub dX8_goBoth_56 ?_
      refine tq_iconst (v := 1) dX8_goBoth_57 (by decide) ?_
      refine tm_c4_i dX8_goBoth_58 rfl rfl rfl (Nat.le_of_ble_eq_true rfl) (wfm_columnBy (d := d) _ _ _ _ _) (fun p58 => ?_)
      refine tq_istore (L' := [_, _, _, _, _, _]) dX8_goBoth_61 (Nat.le_of_ble_eq_true rfl) rfl ?_
      refine tq_aload_n dX8_goBoth_63 rfl ?_
      refine tq_iload_n dX8_goBoth_64 rfl ?_
      refine tq_bipush (v := 8) dX8_goBoth_65 (by decide) ?_
      refine tq_irem dX8_goBoth_67 (fun x67 => ?_)
      refine tq_iload_n dX8_goBoth_68 rfl ?_
      refine tq_iload_n dX8_goBoth_69 rfl ?_
      refine tq_iconst (v := 3) dX8_goBoth_70 (by decide) ?_
      refine tq_irem dX8_goBoth_71 (fun x71 => ?_)
      refine tq_iconst (v := 1) dX8_goBoth_72 (by decide) ?_
      refine tq_isub dX8_goBoth_73 ?_
      refine tq_iconst (v := 1) dX8_goBoth_74 (by decide) ?_
      refine tm_c4_i dX8_goBoth_75 rfl rfl rfl (Nat.le_of_ble_eq_true rfl) (wfm_columnBy (d := d) _ _ _ _ _) (fun p75 => ?_)
      refine tq_istore (L' := [_, _, _, _, _, _]) dX8_goBoth_78 (Nat.le_of_ble_eq_true rfl) rfl ?_
      refine tq_aload_n dX8_goBoth_80 rfl ?_
      refine tq_iload dX8_goBoth_81 rfl ?_
      refine tq_iload_n dX8_goBoth_83 rfl ?_
      refine tq_iconst (v := 1) dX8_goBoth_84 (by decide) ?_
      refine tq_iadd dX8_goBoth_85 ?_
      refine tm_c2_i dX8_goBoth_86 rfl rfl rfl (Nat.le_of_ble_eq_true rfl) (wfm_isIron (d := d + 1) _ _ _) (fun p86 => ?_)
      refine tq_if_ne dX8_goBoth_89 rfl ?_ ?_
      · refine tq_iinc (v := (q.1 + 1)) (L' := [_, _, _, _, _, _]) dX8_goBoth_118 rfl (Nat.le_of_ble_eq_true rfl) rfl rfl ?_
        refine tq_goto dX8_goBoth_121 rfl ?_
        exact Bfm_goBoth_b31 _ _ _ _ (⟨some (.int p58), rfl⟩, ⟨some (.int p75), rfl⟩)
      · refine tq_aload_n dX8_goBoth_92 rfl ?_
        refine tq_iload dX8_goBoth_93 rfl ?_
        refine tq_iload_n dX8_goBoth_95 rfl ?_
        refine tq_iconst (v := 1) dX8_goBoth_96 (by decide) ?_
        refine tq_iadd dX8_goBoth_97 ?_
        refine tm_c2_i dX8_goBoth_98 rfl rfl rfl (Nat.le_of_ble_eq_true rfl) (wfm_isIron (d := d + 1) _ _ _) (fun p98 => ?_)
        refine tq_if_ne dX8_goBoth_101 rfl ?_ ?_
        · refine tq_iinc (v := (q.1 + 1)) (L' := [_, _, _, _, _, _]) dX8_goBoth_118 rfl (Nat.le_of_ble_eq_true rfl) rfl rfl ?_
          refine tq_goto dX8_goBoth_121 rfl ?_
          exact Bfm_goBoth_b31 _ _ _ _ (⟨some (.int p58), rfl⟩, ⟨some (.int p75), rfl⟩)
        · refine tq_aload_n dX8_goBoth_104 rfl ?_
          refine tm_ga (j := 31) dX8_goBoth_105 rfl rfl ?_
          refine tq_bipush (v := 8) dX8_goBoth_108 (by decide) ?_
          refine tq_iload dX8_goBoth_110 rfl ?_
          refine tq_imul dX8_goBoth_112 ?_
          refine tq_iload dX8_goBoth_113 rfl ?_
          refine tq_iadd dX8_goBoth_115 ?_
          refine tq_iconst (v := 1) dX8_goBoth_116 (by decide) ?_
          refine tm_bst dX8_goBoth_117 rfl (fun s117 => ?_)
          refine tq_iinc (v := (q.1 + 1)) (L' := [_, _, _, _, _, _]) dX8_goBoth_118 rfl (Nat.le_of_ble_eq_true rfl) rfl rfl ?_
          refine tq_goto dX8_goBoth_121 rfl ?_
          exact Bfm_goBoth_b31 _ _ _ _ (⟨some (.int p58), rfl⟩, ⟨some (.int p75), rfl⟩)
theorem Sfm_goBoth_b31 {G : ai_G} {d M : Nat} {h0 : ai_H} {α : Type} {P : α → Option ai_R → Prop} (v1 : Int32) (v2 : Int32) (b0 : Int32) (b1 : mS) (J : JV × JV) {r : mS → Option α} (kk : ∀ (q : mS) (J : JV × JV × JV), Tj G (d + 2) 239 P (r q) 124 [some (.ref M), some (.int v1), some (.int v2), J.1.1, J.2.1.1, J.2.2.1] [] (mH M q h0)) : Tj G (d + 2) 239 P ((lp (fm_goBoth_b31 v1 v2) (b0, b1)).bind r) 31 [some (.ref M), some (.int v1), some (.int v2), some (.int b0), J.1.1, J.2.1] [] (mH M b1 h0) := tq_lp1 (J := J) (fun q J => wfm_goBoth_b31 v1 v2 q J) rfl rfl kk
theorem wfm_goBoth_b23 {G : ai_G} {d M : Nat} {h0 : ai_H} (v1 : Int32) (q : Int32 × mS) (J : JV × JV × JV) : Tj G (d + 2) 239 (Pfm_goBoth_b23 G d M h0 v1) (fm_goBoth_b23 v1 q) 23 [some (.ref M), some (.int v1), some (.int q.1), J.1.1, J.2.1.1, J.2.2.1] [] (mH M q.2 h0) := by
  unfold fm_goBoth_b23
  refine tq_iload_n dX8_goBoth_23 rfl ?_
  refine tq_bipush (v := 64) dX8_goBoth_24 (by decide) ?_
  refine tq_icmp_ge dX8_goBoth_26 rfl ?_ ?_
  · exact Efm_goBoth_b23 _ _ (⟨some (.int v1), rfl⟩, ⟨some (.int q.1), rfl⟩, J.1, J.2.1, J.2.2)
  · refine tq_iconst (v := 0) dX8_goBoth_29 (by decide) ?_
    refine tq_istore_n (L' := [_, _, _, _, _, _]) dX8_goBoth_30 (Nat.le_of_ble_eq_true rfl) rfl ?_
    refine Sfm_goBoth_b31 _ _ _ _ (J.2.1, J.2.2) (fun q31 J31 => ?_)
    refine tq_iinc (v := (q.1 + 1)) (L' := [_, _, _, _, _, _]) dX8_goBoth_124 rfl (Nat.le_of_ble_eq_true rfl) rfl rfl ?_
    refine tq_goto dX8_goBoth_127 rfl ?_
    exact Bfm_goBoth_b23 _ _ _ (J31.1, J31.2.1, J31.2.2)
theorem Sfm_goBoth_b23 {G : ai_G} {d M : Nat} {h0 : ai_H} {α : Type} {P : α → Option ai_R → Prop} (v1 : Int32) (b0 : Int32) (b1 : mS) (J : JV × JV × JV) {r : mS → Option α} (kk : ∀ (q : mS) (J : JV × JV × JV × JV × JV), Tj G (d + 2) 239 P (r q) 130 [some (.ref M), J.1.1, J.2.1.1, J.2.2.1.1, J.2.2.2.1.1, J.2.2.2.2.1] [] (mH M q h0)) : Tj G (d + 2) 239 P ((lp (fm_goBoth_b23 v1) (b0, b1)).bind r) 23 [some (.ref M), some (.int v1), some (.int b0), J.1.1, J.2.1.1, J.2.2.1] [] (mH M b1 h0) := tq_lp1 (J := J) (fun q J => wfm_goBoth_b23 v1 q J) rfl rfl kk
abbrev Pfm_goBoth_b132 (G : ai_G) (d M : Nat) (h0 : ai_H)  : (Int32 × mS) ⊕ mS → Option ai_R → Prop := Sum.elim (fun (q : Int32 × mS) run => ∃ J : JV × JV × JV × JV, run = ai_run G (d + 2) 239 132 [some (.ref M), J.1.1, some (.int q.1), J.2.1.1, J.2.2.1.1, J.2.2.2.1] [] (mH M q.2 h0)) (fun (q : mS) run => ∃ J : JV × JV × JV × JV × JV × JV, run = ai_run G (d + 2) 239 156 [J.1.1, J.2.1.1, J.2.2.1.1, J.2.2.2.1.1, J.2.2.2.2.1.1, J.2.2.2.2.2.1] [] (mH M q h0))
theorem Bfm_goBoth_b132 {G : ai_G} {d M : Nat} {h0 : ai_H}  (b0 : Int32) (b1 : mS) (J : JV × JV × JV × JV) : Tj G (d + 2) 239 (Pfm_goBoth_b132 G d M h0) (some (.inl (b0, b1))) 132 [some (.ref M), J.1.1, some (.int b0), J.2.1.1, J.2.2.1.1, J.2.2.2.1] [] (mH M b1 h0) := tq_back J rfl rfl
theorem Efm_goBoth_b132 {G : ai_G} {d M : Nat} {h0 : ai_H}  (b0 : mS) (J : JV × JV × JV × JV × JV × JV) : Tj G (d + 2) 239 (Pfm_goBoth_b132 G d M h0) (some (.inr b0)) 156 [J.1.1, J.2.1.1, J.2.2.1.1, J.2.2.2.1.1, J.2.2.2.2.1.1, J.2.2.2.2.2.1] [] (mH M b0 h0) := tq_exit J rfl rfl
theorem wfm_goBoth_b132 {G : ai_G} {d M : Nat} {h0 : ai_H}  (q : Int32 × mS) (J : JV × JV × JV × JV) : Tj G (d + 2) 239 (Pfm_goBoth_b132 G d M h0) (fm_goBoth_b132 q) 132 [some (.ref M), J.1.1, some (.int q.1), J.2.1.1, J.2.2.1.1, J.2.2.2.1] [] (mH M q.2 h0) := by
  unfold fm_goBoth_b132
  refine tq_iload_n dX8_goBoth_132 rfl ?_
  refine tq_bipush (v := 64) dX8_goBoth_133 (by decide) ?_
  refine tq_icmp_ge dX8_goBoth_135 rfl ?_ ?_
  · exact Efm_goBoth_b132 _ (⟨some (.ref M), rfl⟩, J.1, ⟨some (.int q.1), rfl⟩, J.2.1, J.2.2.1, J.2.2.2)
  · refine tq_aload_n dX8_goBoth_138 rfl ?_
    refine tm_ga (j := 30) dX8_goBoth_139 rfl rfl ?_
    refine tq_iload_n dX8_goBoth_142 rfl ?_
    refine tq_aload_n dX8_goBoth_143 rfl ?_
    refine tm_ga (j := 31) dX8_goBoth_144 rfl rfl ?_
    refine tq_iload_n dX8_goBoth_147 rfl ?_
    refine tm_bld dX8_goBoth_148 rfl (fun x148 => ?_)
    refine tm_bst dX8_goBoth_149 rfl (fun s149 => ?_)
    refine tq_iinc (v := (q.1 + 1)) (L' := [_, _, _, _, _, _]) dX8_goBoth_150 rfl (Nat.le_of_ble_eq_true rfl) rfl (st1_jv (i := 1) (j := J.1) rfl rfl) ?_
    refine tq_goto dX8_goBoth_153 rfl ?_
    exact Bfm_goBoth_b132 _ _ (J.1, J.2.1, J.2.2.1, J.2.2.2)
theorem Sfm_goBoth_b132 {G : ai_G} {d M : Nat} {h0 : ai_H} {α : Type} {P : α → Option ai_R → Prop}  (b0 : Int32) (b1 : mS) (J : JV × JV × JV × JV) {r : mS → Option α} (kk : ∀ (q : mS) (J : JV × JV × JV × JV × JV × JV), Tj G (d + 2) 239 P (r q) 156 [J.1.1, J.2.1.1, J.2.2.1.1, J.2.2.2.1.1, J.2.2.2.2.1.1, J.2.2.2.2.2.1] [] (mH M q h0)) : Tj G (d + 2) 239 P ((lp fm_goBoth_b132 (b0, b1)).bind r) 132 [some (.ref M), J.1.1, some (.int b0), J.2.1.1, J.2.2.1.1, J.2.2.2.1] [] (mH M b1 h0) := tq_lp1 (J := J) (fun q J => wfm_goBoth_b132  q J) rfl rfl kk
theorem wfm_goBoth {G : ai_G} {d M : Nat} {h0 : ai_H} (s : mS) (v1 : Int32) : ∀ r, fm_goBoth s v1 = some r → (PmV M h0) r (ai_call G (d + 3) 239 [.ref M, .int v1] (mH M s h0)) := by
  refine tq_meth (P := (PmV M h0)) (d := (d + 2)) (Nat.le_of_ble_eq_true rfl) ?_
  show Tj G (d + 2) 239 (PmV M h0) (fm_goBoth s v1) 0 [some (.ref M), some (.int v1), none, none, none, none] [] (mH M s h0)
  unfold fm_goBoth
  refine tq_iconst (v := 0) dX8_goBoth_0 (by decide) ?_
  refine tq_istore_n (L' := [_, _, _, _, _, _]) dX8_goBoth_1 (Nat.le_of_ble_eq_true rfl) rfl ?_
  refine Sfm_goBoth_b2 _ _ _ (⟨none, rfl⟩, ⟨none, rfl⟩, ⟨none, rfl⟩) (fun q2 J2 => ?_)
  refine tq_iconst (v := 0) dX8_goBoth_21 (by decide) ?_
  refine tq_istore_n (L' := [_, _, _, _, _, _]) dX8_goBoth_22 (Nat.le_of_ble_eq_true rfl) rfl ?_
  refine Sfm_goBoth_b23 _ _ _ (J2.2.1, J2.2.2.1, J2.2.2.2) (fun q23 J23 => ?_)
  refine tq_iconst (v := 0) dX8_goBoth_130 (by decide) ?_
  refine tq_istore_n (L' := [_, _, _, _, _, _]) dX8_goBoth_131 (Nat.le_of_ble_eq_true rfl) (st1_jv (i := 1) (j := J23.1) rfl rfl) ?_
  refine Sfm_goBoth_b132 _ _ (J23.1, J23.2.2.1, J23.2.2.2.1, J23.2.2.2.2) (fun q132 J132 => ?_)
  exact tq_return dX8_goBoth_156 rfl rfl
abbrev Pfm_meet_b44 (G : ai_G) (d M : Nat) (h0 : ai_H) (v1 : Int32) (v2 : Int32) : (Int32 × mS) ⊕ mS → Option ai_R → Prop := Sum.elim (fun (q : Int32 × mS) run => ∃ J : Unit, run = ai_run G (d + 3) 240 44 [some (.ref M), some (.int v1), some (.int v2), some (.int q.1)] [] (mH M q.2 h0)) (fun (q : mS) run => ∃ J : JV × JV, run = ai_run G (d + 3) 240 87 [some (.ref M), some (.int v1), J.1.1, J.2.1] [] (mH M q h0))
theorem Bfm_meet_b44 {G : ai_G} {d M : Nat} {h0 : ai_H} (v1 : Int32) (v2 : Int32) (b0 : Int32) (b1 : mS) (J : Unit) : Tj G (d + 3) 240 (Pfm_meet_b44 G d M h0 v1 v2) (some (.inl (b0, b1))) 44 [some (.ref M), some (.int v1), some (.int v2), some (.int b0)] [] (mH M b1 h0) := tq_back J rfl rfl
theorem Efm_meet_b44 {G : ai_G} {d M : Nat} {h0 : ai_H} (v1 : Int32) (v2 : Int32) (b0 : mS) (J : JV × JV) : Tj G (d + 3) 240 (Pfm_meet_b44 G d M h0 v1 v2) (some (.inr b0)) 87 [some (.ref M), some (.int v1), J.1.1, J.2.1] [] (mH M b0 h0) := tq_exit J rfl rfl
theorem wfm_meet_b44 {G : ai_G} {d M : Nat} {h0 : ai_H} (v1 : Int32) (v2 : Int32) (q : Int32 × mS) (J : Unit) : Tj G (d + 3) 240 (Pfm_meet_b44 G d M h0 v1 v2) (fm_meet_b44 v1 v2 q) 44 [some (.ref M), some (.int v1), some (.int v2), some (.int q.1)] [] (mH M q.2 h0) := by
  unfold fm_meet_b44
  refine tq_iload_n dX8_meet_44 rfl ?_
  refine tq_bipush (v := 64) dX8_meet_45 (by decide) ?_
  refine tq_icmp_ge dX8_meet_47 rfl ?_ ?_
  · exact Efm_meet_b44 _ _ _ (⟨some (.int v2), rfl⟩, ⟨some (.int q.1), rfl⟩)
  · refine tq_aload_n dX8_meet_50 rfl ?_
    refine tm_ga (j := 30) dX8_meet_51 rfl rfl ?_
    refine tq_iload_n dX8_meet_54 rfl ?_
    refine tq_iload_n dX8_meet_55 rfl ?_
    refine tq_bipush (v := 8) dX8_meet_56 (by decide) ?_
    refine tq_aload_n dX8_meet_58 rfl ?_
    refine tm_ga (j := 22) dX8_meet_59 rfl rfl ?_
    refine tq_iload_n dX8_meet_62 rfl ?_
    refine tm_ild dX8_meet_63 rfl (fun x63 => ?_)
    refine tq_imul dX8_meet_64 ?_
    refine tq_aload_n dX8_meet_65 rfl ?_
    refine tm_ga (j := 22) dX8_meet_66 rfl rfl ?_
    refine tq_iload_n dX8_meet_69 rfl ?_
    refine tm_ild dX8_meet_70 rfl (fun x70 => ?_)
    refine tq_iadd dX8_meet_71 ?_
    refine tq_icmp_ne dX8_meet_72 rfl ?_ ?_
    · refine tq_iconst (v := 0) dX8_meet_79 (by decide) ?_
      refine tm_bst dX8_meet_80 rfl (fun s80 => ?_)
      refine tq_iinc (v := (q.1 + 1)) (L' := [_, _, _, _]) dX8_meet_81 rfl (Nat.le_of_ble_eq_true rfl) rfl rfl ?_
      refine tq_goto dX8_meet_84 rfl ?_
      exact Bfm_meet_b44 _ _ _ _ ()
    · refine tq_iconst (v := 1) dX8_meet_75 (by decide) ?_
      refine tq_goto dX8_meet_76 rfl ?_
      refine tm_bst dX8_meet_80 rfl (fun s80 => ?_)
      refine tq_iinc (v := (q.1 + 1)) (L' := [_, _, _, _]) dX8_meet_81 rfl (Nat.le_of_ble_eq_true rfl) rfl rfl ?_
      refine tq_goto dX8_meet_84 rfl ?_
      exact Bfm_meet_b44 _ _ _ _ ()
theorem Sfm_meet_b44 {G : ai_G} {d M : Nat} {h0 : ai_H} {α : Type} {P : α → Option ai_R → Prop} (v1 : Int32) (v2 : Int32) (b0 : Int32) (b1 : mS) (J : Unit) {r : mS → Option α} (kk : ∀ (q : mS) (J : JV × JV), Tj G (d + 3) 240 P (r q) 87 [some (.ref M), some (.int v1), J.1.1, J.2.1] [] (mH M q h0)) : Tj G (d + 3) 240 P ((lp (fm_meet_b44 v1 v2) (b0, b1)).bind r) 44 [some (.ref M), some (.int v1), some (.int v2), some (.int b0)] [] (mH M b1 h0) := tq_lp1 (J := J) (fun q J => wfm_meet_b44 v1 v2 q J) rfl rfl kk
abbrev Pfm_meet_b89 (G : ai_G) (d M : Nat) (h0 : ai_H) (v1 : Int32) : (Int32 × mS) ⊕ (mS ⊕ (Int32 × mS)) → Option ai_R → Prop := Sum.elim (fun (q : Int32 × mS) run => ∃ J : JV, run = ai_run G (d + 3) 240 89 [some (.ref M), some (.int v1), J.1, some (.int q.1)] [] (mH M q.2 h0)) (Sum.elim (fun (q : mS) run => ∃ J : JV × JV × JV × JV, run = ai_run G (d + 3) 240 136 [J.1.1, J.2.1.1, J.2.2.1.1, J.2.2.2.1] [] (mH M q h0)) (PmI M h0))
theorem Bfm_meet_b89 {G : ai_G} {d M : Nat} {h0 : ai_H} (v1 : Int32) (b0 : Int32) (b1 : mS) (J : JV) : Tj G (d + 3) 240 (Pfm_meet_b89 G d M h0 v1) (some (.inl (b0, b1))) 89 [some (.ref M), some (.int v1), J.1, some (.int b0)] [] (mH M b1 h0) := tq_back J rfl rfl
theorem Efm_meet_b89 {G : ai_G} {d M : Nat} {h0 : ai_H} (v1 : Int32) (b0 : mS) (J : JV × JV × JV × JV) : Tj G (d + 3) 240 (Pfm_meet_b89 G d M h0 v1) (some (.inr (.inl b0))) 136 [J.1.1, J.2.1.1, J.2.2.1.1, J.2.2.2.1] [] (mH M b0 h0) := tq_exit2 J rfl rfl
theorem wfm_meet_b89 {G : ai_G} {d M : Nat} {h0 : ai_H} (v1 : Int32) (q : Int32 × mS) (J : JV) : Tj G (d + 3) 240 (Pfm_meet_b89 G d M h0 v1) (fm_meet_b89 v1 q) 89 [some (.ref M), some (.int v1), J.1, some (.int q.1)] [] (mH M q.2 h0) := by
  unfold fm_meet_b89
  refine tq_iload_n dX8_meet_89 rfl ?_
  refine tq_aload_n dX8_meet_90 rfl ?_
  refine tq_iload_n dX8_meet_91 rfl ?_
  refine tm_c1_i dX8_meet_92 rfl rfl rfl (Nat.le_of_ble_eq_true rfl) (wfm_leftOf (d := d + 2) _ _) (fun p92 => ?_)
  refine tq_icmp_gt dX8_meet_95 rfl ?_ ?_
  · exact Efm_meet_b89 _ _ (⟨some (.ref M), rfl⟩, ⟨some (.int v1), rfl⟩, J, ⟨some (.int q.1), rfl⟩)
  · refine tq_aload_n dX8_meet_98 rfl ?_
    refine tm_c0_i dX8_meet_99 rfl rfl rfl (Nat.le_of_ble_eq_true rfl) (wfm_areBeside (d := d + 1) _) (fun p99 => ?_)
    refine tq_if_eq dX8_meet_102 rfl ?_ ?_
    · refine tq_iload_n dX8_meet_107 rfl ?_
      refine tq_aload_n dX8_meet_108 rfl ?_
      refine tq_iload_n dX8_meet_109 rfl ?_
      refine tm_c1_i dX8_meet_110 rfl rfl rfl (Nat.le_of_ble_eq_true rfl) (wfm_leftOf (d := d + 2) _ _) (fun p110 => ?_)
      refine tq_icmp_ge dX8_meet_113 rfl ?_ ?_
      · refine tq_iinc (v := (q.1 + 1)) (L' := [_, _, _, _]) dX8_meet_130 rfl (Nat.le_of_ble_eq_true rfl) rfl (st1_jv (i := 2) (j := J) rfl rfl) ?_
        refine tq_goto dX8_meet_133 rfl ?_
        exact Bfm_meet_b89 _ _ _ J
      · refine tq_aload_n dX8_meet_116 rfl ?_
        refine tq_aload_n dX8_meet_117 rfl ?_
        refine tm_ga (j := 22) dX8_meet_118 rfl rfl ?_
        refine tq_iconst (v := 4) dX8_meet_121 (by decide) ?_
        refine tq_iload_n dX8_meet_122 rfl ?_
        refine tq_iadd dX8_meet_123 ?_
        refine tm_ild dX8_meet_124 rfl (fun x124 => ?_)
        refine tq_iload_n dX8_meet_125 rfl ?_
        refine tq_iadd dX8_meet_126 ?_
        refine tm_c1_V dX8_meet_127 rfl rfl rfl (Nat.le_of_ble_eq_true rfl) (wfm_goBoth (d := d) _ _) (fun p127 => ?_)
        refine tq_iinc (v := (q.1 + 1)) (L' := [_, _, _, _]) dX8_meet_130 rfl (Nat.le_of_ble_eq_true rfl) rfl (st1_jv (i := 2) (j := J) rfl rfl) ?_
        refine tq_goto dX8_meet_133 rfl ?_
        exact Bfm_meet_b89 _ _ _ J
    · refine tq_iload_n dX8_meet_105 rfl ?_
      exact tq_ireturn dX8_meet_106 rfl rfl
theorem Sfm_meet_b89 {G : ai_G} {d M : Nat} {h0 : ai_H} {α : Type} {P : α → Option ai_R → Prop} (v1 : Int32) (b0 : Int32) (b1 : mS) (J : JV) {r : mS → Option α} {r2 : (Int32 × mS) → Option α} (k2 : ∀ v run, (PmI M h0) v run → ∀ a, r2 v = some a → P a run) (kk : ∀ (q : mS) (J : JV × JV × JV × JV), Tj G (d + 3) 240 P (r q) 136 [J.1.1, J.2.1.1, J.2.2.1.1, J.2.2.2.1] [] (mH M q h0)) : Tj G (d + 3) 240 P ((lp (fm_meet_b89 v1) (b0, b1)).bind (Sum.elim r r2)) 89 [some (.ref M), some (.int v1), J.1, some (.int b0)] [] (mH M b1 h0) := tq_lp2 (J := J) (fun q J => wfm_meet_b89 v1 q J) rfl rfl k2 kk
theorem wfm_meet {G : ai_G} {d M : Nat} {h0 : ai_H} (s : mS) (v1 : Int32) (v2 : Int32) : ∀ r, fm_meet s v1 v2 = some r → (PmI M h0) r (ai_call G (d + 4) 240 [.ref M, .int v1, .int v2] (mH M s h0)) := by
  refine tq_meth (P := (PmI M h0)) (d := (d + 3)) (Nat.le_of_ble_eq_true rfl) ?_
  show Tj G (d + 3) 240 (PmI M h0) (fm_meet s v1 v2) 0 [some (.ref M), some (.int v1), some (.int v2), none] [] (mH M s h0)
  unfold fm_meet
  refine tq_aload_n dX8_meet_0 rfl ?_
  refine tq_iload_n dX8_meet_1 rfl ?_
  refine tm_c1_i dX8_meet_2 rfl rfl rfl (Nat.le_of_ble_eq_true rfl) (wfm_isBoard (d := d + 1) _ _) (fun p2 => ?_)
  refine tq_if_eq dX8_meet_5 rfl ?_ ?_
  · refine tq_iconst (v := (-1)) dX8_meet_40 (by decide) ?_
    exact tq_ireturn dX8_meet_41 rfl rfl
  · refine tq_aload_n dX8_meet_8 rfl ?_
    refine tq_iload_n dX8_meet_9 rfl ?_
    refine tm_c1_i dX8_meet_10 rfl rfl rfl (Nat.le_of_ble_eq_true rfl) (wfm_isBoard (d := d + 1) _ _) (fun p10 => ?_)
    refine tq_if_eq dX8_meet_13 rfl ?_ ?_
    · refine tq_iconst (v := (-1)) dX8_meet_40 (by decide) ?_
      exact tq_ireturn dX8_meet_41 rfl rfl
    · refine tq_iload_n dX8_meet_16 rfl ?_
      refine tq_iload_n dX8_meet_17 rfl ?_
      refine tq_icmp_eq dX8_meet_18 rfl ?_ ?_
      · refine tq_iconst (v := (-1)) dX8_meet_40 (by decide) ?_
        exact tq_ireturn dX8_meet_41 rfl rfl
      · refine tq_aload_n dX8_meet_21 rfl ?_
        refine tm_ga (j := 22) dX8_meet_22 rfl rfl ?_
        refine tq_iconst (v := 4) dX8_meet_25 (by decide) ?_
        refine tq_iload_n dX8_meet_26 rfl ?_
        refine tq_iadd dX8_meet_27 ?_
        refine tm_ild dX8_meet_28 rfl (fun x28 => ?_)
        refine tq_aload_n dX8_meet_29 rfl ?_
        refine tm_ga (j := 22) dX8_meet_30 rfl rfl ?_
        refine tq_iconst (v := 4) dX8_meet_33 (by decide) ?_
        refine tq_iload_n dX8_meet_34 rfl ?_
        refine tq_iadd dX8_meet_35 ?_
        refine tm_ild dX8_meet_36 rfl (fun x36 => ?_)
        refine tq_icmp_eq dX8_meet_37 rfl ?_ ?_
        · refine tq_iconst (v := 0) dX8_meet_42 (by decide) ?_
          refine tq_istore_n (L' := [_, _, _, _]) dX8_meet_43 (Nat.le_of_ble_eq_true rfl) rfl ?_
          refine Sfm_meet_b44 _ _ _ _ () (fun q44 J44 => ?_)
          refine tq_iconst (v := 0) dX8_meet_87 (by decide) ?_
          refine tq_istore_n (L' := [_, _, _, _]) dX8_meet_88 (Nat.le_of_ble_eq_true rfl) (st1_jv (i := 2) (j := J44.1) rfl rfl) ?_
          refine Sfm_meet_b89 _ _ _ J44.1 (fun v run hv a ha => by cases ha; exact hv) (fun q89 J89 => ?_)
          refine tq_iconst (v := (-1)) dX8_meet_136 (by decide) ?_
          exact tq_ireturn dX8_meet_137 rfl rfl
        · refine tq_iconst (v := (-1)) dX8_meet_40 (by decide) ?_
          exact tq_ireturn dX8_meet_41 rfl rfl
abbrev Pfm_layMooring_b15 (G : ai_G) (d M : Nat) (h0 : ai_H)  : (Int32 × Int32 × Int32 × Int32 × mS) ⊕ ((Int32 × mS) ⊕ (Int32 × mS)) → Option ai_R → Prop := Sum.elim (fun (q : Int32 × Int32 × Int32 × Int32 × mS) run => ∃ J : JV, run = ai_run G d 244 15 [some (.ref M), J.1, some (.int q.1), some (.int q.2.1), some (.int q.2.2.1), some (.int q.2.2.2.1)] [] (mH M q.2.2.2.2 h0)) (Sum.elim (fun (q : Int32 × mS) run => ∃ J : JV × JV × JV × JV × JV, run = ai_run G d 244 109 [J.1.1, J.2.1.1, J.2.2.1.1, J.2.2.2.1.1, some (.int q.1), J.2.2.2.2.1] [] (mH M q.2 h0)) (PmI M h0))
theorem Bfm_layMooring_b15 {G : ai_G} {d M : Nat} {h0 : ai_H}  (b0 : Int32) (b1 : Int32) (b2 : Int32) (b3 : Int32) (b4 : mS) (J : JV) : Tj G d 244 (Pfm_layMooring_b15 G d M h0) (some (.inl (b0, b1, b2, b3, b4))) 15 [some (.ref M), J.1, some (.int b0), some (.int b1), some (.int b2), some (.int b3)] [] (mH M b4 h0) := tq_back J rfl rfl
theorem Efm_layMooring_b15 {G : ai_G} {d M : Nat} {h0 : ai_H}  (b0 : Int32) (b1 : mS) (J : JV × JV × JV × JV × JV) : Tj G d 244 (Pfm_layMooring_b15 G d M h0) (some (.inr (.inl (b0, b1)))) 109 [J.1.1, J.2.1.1, J.2.2.1.1, J.2.2.2.1.1, some (.int b0), J.2.2.2.2.1] [] (mH M b1 h0) := tq_exit2 J rfl rfl
theorem wfm_layMooring_b15 {G : ai_G} {d M : Nat} {h0 : ai_H}  (q : Int32 × Int32 × Int32 × Int32 × mS) (J : JV) : Tj G d 244 (Pfm_layMooring_b15 G d M h0) (fm_layMooring_b15 q) 15 [some (.ref M), J.1, some (.int q.1), some (.int q.2.1), some (.int q.2.2.1), some (.int q.2.2.2.1)] [] (mH M q.2.2.2.2 h0) := by
  unfold fm_layMooring_b15
  refine tq_iload dX8_layMooring_15 rfl ?_
  refine tq_if_lt dX8_layMooring_17 rfl ?_ ?_
  · exact Efm_layMooring_b15 _ _ (⟨some (.ref M), rfl⟩, J, ⟨some (.int q.1), rfl⟩, ⟨some (.int q.2.1), rfl⟩, ⟨some (.int q.2.2.2.1), rfl⟩)
  · refine tq_aload_n dX8_layMooring_20 rfl ?_
    refine tm_ga (j := 33) dX8_layMooring_21 rfl rfl ?_
    refine tq_iload dX8_layMooring_24 rfl ?_
    refine tq_iload_n dX8_layMooring_26 rfl ?_
    refine tq_bipush (v := 9) dX8_layMooring_27 (by decide) ?_
    refine tq_irem dX8_layMooring_29 (fun x29 => ?_)
    refine tm_ist dX8_layMooring_30 rfl (fun s30 => ?_)
    refine tq_iload_n dX8_layMooring_31 rfl ?_
    refine tq_bipush (v := 9) dX8_layMooring_32 (by decide) ?_
    refine tq_idiv dX8_layMooring_34 (fun x34 => ?_)
    refine tq_istore_n (L' := [_, _, _, _, _, _]) dX8_layMooring_35 (Nat.le_of_ble_eq_true rfl) (st1_jv (i := 1) (j := J) rfl rfl) ?_
    refine tq_aload_n dX8_layMooring_36 rfl ?_
    refine tm_ga (j := 33) dX8_layMooring_37 rfl rfl ?_
    refine tq_iload dX8_layMooring_40 rfl ?_
    refine tm_ild dX8_layMooring_42 rfl (fun x42 => ?_)
    refine tq_bipush (v := 8) dX8_layMooring_43 (by decide) ?_
    refine tq_icmp_ne dX8_layMooring_45 rfl ?_ ?_
    · refine tq_aload_n dX8_layMooring_51 rfl ?_
      refine tm_ga (j := 32) dX8_layMooring_52 rfl rfl ?_
      refine tq_iload dX8_layMooring_55 rfl ?_
      refine tm_ild dX8_layMooring_57 rfl (fun x57 => ?_)
      refine tq_aload_n dX8_layMooring_58 rfl ?_
      refine tm_ga (j := 33) dX8_layMooring_59 rfl rfl ?_
      refine tq_iload dX8_layMooring_62 rfl ?_
      refine tm_ild dX8_layMooring_64 rfl (fun x64 => ?_)
      refine tq_ishr dX8_layMooring_65 ?_
      refine tq_iconst (v := 1) dX8_layMooring_66 (by decide) ?_
      refine tq_iand dX8_layMooring_67 ?_
      refine tq_if_eq dX8_layMooring_68 rfl ?_ ?_
      · refine tq_iconst (v := (-1)) dX8_layMooring_86 (by decide) ?_
        exact tq_ireturn dX8_layMooring_87 rfl rfl
      · refine tq_iload_n dX8_layMooring_71 rfl ?_
        refine tq_aload_n dX8_layMooring_72 rfl ?_
        refine tm_ga (j := 33) dX8_layMooring_73 rfl rfl ?_
        refine tq_iload dX8_layMooring_76 rfl ?_
        refine tm_ild dX8_layMooring_78 rfl (fun x78 => ?_)
        refine tq_ishr dX8_layMooring_79 ?_
        refine tq_iconst (v := 1) dX8_layMooring_80 (by decide) ?_
        refine tq_iand dX8_layMooring_81 ?_
        refine tq_iconst (v := 1) dX8_layMooring_82 (by decide) ?_
        refine tq_icmp_ne dX8_layMooring_83 rfl ?_ ?_
        · refine tq_iload_n dX8_layMooring_88 rfl ?_
          refine tq_iconst (v := 1) dX8_layMooring_89 (by decide) ?_
          refine tq_aload_n dX8_layMooring_90 rfl ?_
          refine tm_ga (j := 33) dX8_layMooring_91 rfl rfl ?_
          refine tq_iload dX8_layMooring_94 rfl ?_
          refine tm_ild dX8_layMooring_96 rfl (fun x96 => ?_)
          refine tq_ishl dX8_layMooring_97 ?_
          refine tq_ior dX8_layMooring_98 ?_
          refine tq_istore_n (L' := [_, _, _, _, _, _]) dX8_layMooring_99 (Nat.le_of_ble_eq_true rfl) rfl ?_
          refine tq_iinc (v := (q.2.2.1 + 1)) (L' := [_, _, _, _, _, _]) dX8_layMooring_100 rfl (Nat.le_of_ble_eq_true rfl) rfl rfl ?_
          refine tq_iinc (v := (q.2.2.2.1 + (-1))) (L' := [_, _, _, _, _, _]) dX8_layMooring_103 rfl (Nat.le_of_ble_eq_true rfl) rfl rfl ?_
          refine tq_goto dX8_layMooring_106 rfl ?_
          exact Bfm_layMooring_b15 _ _ _ _ _ J
        · refine tq_iconst (v := (-1)) dX8_layMooring_86 (by decide) ?_
          exact tq_ireturn dX8_layMooring_87 rfl rfl
    · refine tq_goto dX8_layMooring_48 rfl ?_
      refine tq_iinc (v := (q.2.2.2.1 + (-1))) (L' := [_, _, _, _, _, _]) dX8_layMooring_103 rfl (Nat.le_of_ble_eq_true rfl) rfl rfl ?_
      refine tq_goto dX8_layMooring_106 rfl ?_
      exact Bfm_layMooring_b15 _ _ _ _ _ J
theorem Sfm_layMooring_b15 {G : ai_G} {d M : Nat} {h0 : ai_H} {α : Type} {P : α → Option ai_R → Prop}  (b0 : Int32) (b1 : Int32) (b2 : Int32) (b3 : Int32) (b4 : mS) (J : JV) {r : (Int32 × mS) → Option α} {r2 : (Int32 × mS) → Option α} (k2 : ∀ v run, (PmI M h0) v run → ∀ a, r2 v = some a → P a run) (kk : ∀ (q : Int32 × mS) (J : JV × JV × JV × JV × JV), Tj G d 244 P (r q) 109 [J.1.1, J.2.1.1, J.2.2.1.1, J.2.2.2.1.1, some (.int q.1), J.2.2.2.2.1] [] (mH M q.2 h0)) : Tj G d 244 P ((lp fm_layMooring_b15 (b0, b1, b2, b3, b4)).bind (Sum.elim r r2)) 15 [some (.ref M), J.1, some (.int b0), some (.int b1), some (.int b2), some (.int b3)] [] (mH M b4 h0) := tq_lp2 (J := J) (fun q J => wfm_layMooring_b15  q J) rfl rfl k2 kk
theorem wfm_layMooring {G : ai_G} {d M : Nat} {h0 : ai_H} (s : mS) (v1 : Int32) : ∀ r, fm_layMooring s v1 = some r → (PmI M h0) r (ai_call G (d + 1) 244 [.ref M, .int v1] (mH M s h0)) := by
  refine tq_meth (P := (PmI M h0)) (d := d) (Nat.le_of_ble_eq_true rfl) ?_
  show Tj G d 244 (PmI M h0) (fm_layMooring s v1) 0 [some (.ref M), some (.int v1), none, none, none, none] [] (mH M s h0)
  unfold fm_layMooring
  refine tq_iload_n dX8_layMooring_0 rfl ?_
  refine tq_istore_n (L' := [_, _, _, _, _, _]) dX8_layMooring_1 (Nat.le_of_ble_eq_true rfl) rfl ?_
  refine tq_iconst (v := 0) dX8_layMooring_2 (by decide) ?_
  refine tq_istore_n (L' := [_, _, _, _, _, _]) dX8_layMooring_3 (Nat.le_of_ble_eq_true rfl) rfl ?_
  refine tq_iconst (v := 0) dX8_layMooring_4 (by decide) ?_
  refine tq_istore (L' := [_, _, _, _, _, _]) dX8_layMooring_5 (Nat.le_of_ble_eq_true rfl) rfl ?_
  refine tq_aload_n dX8_layMooring_7 rfl ?_
  refine tm_gi (k9 := 48) dX8_layMooring_8 rfl rfl ?_
  refine tq_iconst (v := 1) dX8_layMooring_11 (by decide) ?_
  refine tq_isub dX8_layMooring_12 ?_
  refine tq_istore (L' := [_, _, _, _, _, _]) dX8_layMooring_13 (Nat.le_of_ble_eq_true rfl) rfl ?_
  refine Sfm_layMooring_b15 _ _ _ _ _ ⟨some (.int v1), rfl⟩ (fun v run hv a ha => by cases ha; exact hv) (fun q15 J15 => ?_)
  refine tq_iload dX8_layMooring_109 rfl ?_
  exact tq_ireturn dX8_layMooring_111 rfl rfl
abbrev Pfm_betweenAll_b4 (G : ai_G) (d M : Nat) (h0 : ai_H) (s : mS) : (Int32 × Int32) ⊕ Int32 → Option ai_R → Prop := Sum.elim (fun (q : Int32 × Int32) run => ∃ J : Unit, run = ai_run G (d + 1) 245 4 [some (.ref M), some (.int q.1), some (.int q.2)] [] (mH M s h0)) (fun (q : Int32) run => ∃ J : JV × JV, run = ai_run G (d + 1) 245 52 [J.1.1, some (.int q), J.2.1] [] (mH M s h0))
theorem Bfm_betweenAll_b4 {G : ai_G} {d M : Nat} {h0 : ai_H} (s : mS) (b0 : Int32) (b1 : Int32) (J : Unit) : Tj G (d + 1) 245 (Pfm_betweenAll_b4 G d M h0 s) (some (.inl (b0, b1))) 4 [some (.ref M), some (.int b0), some (.int b1)] [] (mH M s h0) := tq_back J rfl rfl
theorem Efm_betweenAll_b4 {G : ai_G} {d M : Nat} {h0 : ai_H} (s : mS) (b0 : Int32) (J : JV × JV) : Tj G (d + 1) 245 (Pfm_betweenAll_b4 G d M h0 s) (some (.inr b0)) 52 [J.1.1, some (.int b0), J.2.1] [] (mH M s h0) := tq_exit J rfl rfl
theorem wfm_betweenAll_b4 {G : ai_G} {d M : Nat} {h0 : ai_H} (s : mS) (q : Int32 × Int32) (J : Unit) : Tj G (d + 1) 245 (Pfm_betweenAll_b4 G d M h0 s) (fm_betweenAll_b4 s q) 4 [some (.ref M), some (.int q.1), some (.int q.2)] [] (mH M s h0) := by
  unfold fm_betweenAll_b4
  refine tq_iload_n dX8_betweenAll_4 rfl ?_
  refine tq_aload_n dX8_betweenAll_5 rfl ?_
  refine tm_gi (k9 := 48) dX8_betweenAll_6 rfl rfl ?_
  refine tq_icmp_ge dX8_betweenAll_9 rfl ?_ ?_
  · exact Efm_betweenAll_b4 _ _ (⟨some (.ref M), rfl⟩, ⟨some (.int q.2), rfl⟩)
  · refine tq_iload_n dX8_betweenAll_12 rfl ?_
    refine tq_aload_n dX8_betweenAll_13 rfl ?_
    refine tm_ga (j := 33) dX8_betweenAll_14 rfl rfl ?_
    refine tq_iload_n dX8_betweenAll_17 rfl ?_
    refine tm_ild dX8_betweenAll_18 rfl (fun x18 => ?_)
    refine tq_bipush (v := 8) dX8_betweenAll_19 (by decide) ?_
    refine tq_icmp_ne dX8_betweenAll_21 rfl ?_ ?_
    · refine tq_aload_n dX8_betweenAll_28 rfl ?_
      refine tm_ga (j := 33) dX8_betweenAll_29 rfl rfl ?_
      refine tq_iload_n dX8_betweenAll_32 rfl ?_
      refine tm_ild dX8_betweenAll_33 rfl (fun x33 => ?_)
      refine tq_aload_n dX8_betweenAll_34 rfl ?_
      refine tm_ga (j := 22) dX8_betweenAll_35 rfl rfl ?_
      refine tq_iload_n dX8_betweenAll_38 rfl ?_
      refine tm_ild dX8_betweenAll_39 rfl (fun x39 => ?_)
      refine tq_isub dX8_betweenAll_40 ?_
      refine ts_c1_i dX8_betweenAll_41 rfl rfl rfl (Nat.le_of_ble_eq_true rfl) (wfm_plain (d := d) _) (fun p41 => ?_)
      refine tq_iadd dX8_betweenAll_44 ?_
      refine tq_istore_n (L' := [_, _, _]) dX8_betweenAll_45 (Nat.le_of_ble_eq_true rfl) rfl ?_
      refine tq_iinc (v := (q.2 + 1)) (L' := [_, _, _]) dX8_betweenAll_46 rfl (Nat.le_of_ble_eq_true rfl) rfl rfl ?_
      refine tq_goto dX8_betweenAll_49 rfl ?_
      exact Bfm_betweenAll_b4 _ _ _ ()
    · refine tq_iconst (v := 0) dX8_betweenAll_24 (by decide) ?_
      refine tq_goto dX8_betweenAll_25 rfl ?_
      refine tq_iadd dX8_betweenAll_44 ?_
      refine tq_istore_n (L' := [_, _, _]) dX8_betweenAll_45 (Nat.le_of_ble_eq_true rfl) rfl ?_
      refine tq_iinc (v := (q.2 + 1)) (L' := [_, _, _]) dX8_betweenAll_46 rfl (Nat.le_of_ble_eq_true rfl) rfl rfl ?_
      refine tq_goto dX8_betweenAll_49 rfl ?_
      exact Bfm_betweenAll_b4 _ _ _ ()
theorem Sfm_betweenAll_b4 {G : ai_G} {d M : Nat} {h0 : ai_H} {α : Type} {P : α → Option ai_R → Prop} (s : mS) (b0 : Int32) (b1 : Int32) (J : Unit) {r : Int32 → Option α} (kk : ∀ (q : Int32) (J : JV × JV), Tj G (d + 1) 245 P (r q) 52 [J.1.1, some (.int q), J.2.1] [] (mH M s h0)) : Tj G (d + 1) 245 P ((lp (fm_betweenAll_b4 s) (b0, b1)).bind r) 4 [some (.ref M), some (.int b0), some (.int b1)] [] (mH M s h0) := tq_lp1 (J := J) (fun q J => wfm_betweenAll_b4 s q J) rfl rfl kk
theorem wfm_betweenAll {G : ai_G} {d M : Nat} {h0 : ai_H} (s : mS) : ∀ r, fm_betweenAll s = some r → (Pi (mH M s h0)) r (ai_call G (d + 2) 245 [.ref M] (mH M s h0)) := by
  refine tq_meth (P := (Pi (mH M s h0))) (d := (d + 1)) (Nat.le_of_ble_eq_true rfl) ?_
  show Tj G (d + 1) 245 (Pi (mH M s h0)) (fm_betweenAll s) 0 [some (.ref M), none, none] [] (mH M s h0)
  unfold fm_betweenAll
  refine tq_iconst (v := 0) dX8_betweenAll_0 (by decide) ?_
  refine tq_istore_n (L' := [_, _, _]) dX8_betweenAll_1 (Nat.le_of_ble_eq_true rfl) rfl ?_
  refine tq_iconst (v := 0) dX8_betweenAll_2 (by decide) ?_
  refine tq_istore_n (L' := [_, _, _]) dX8_betweenAll_3 (Nat.le_of_ble_eq_true rfl) rfl ?_
  refine Sfm_betweenAll_b4 _ _ _ () (fun q4 J4 => ?_)
  refine tq_iload_n dX8_betweenAll_52 rfl ?_
  exact tq_ireturn dX8_betweenAll_53 rfl rfl

/-! WALKS of the model: the interpreter does what the functions say (printed by tools/decm.py) -/
set_option maxRecDepth 100000
theorem wfm_readBoard_j87 {G : ai_G} {d M : Nat} {h0 : ai_H} (j1 : JV)   (s : mS) (t1 : Int32) (t2 : Int32): Tj G (d + 4) 107 (PmV M h0) (fm_readBoard_j87 s t1 t2) 87 [some (.ref M), j1.1] [.int t2, .int t1, .ref (M + 14)] (mH M s h0) := by
  unfold fm_readBoard_j87
  refine tm_ist dX8_readBoard_87 rfl (fun s87 => ?_)
  refine tq_aload_n dX8_readBoard_88 rfl ?_
  refine tm_gi (k9 := 2) dX8_readBoard_89 rfl rfl ?_
  refine tq_if_ne dX8_readBoard_92 rfl ?_ ?_
  · exact tq_return dX8_readBoard_105 rfl rfl
  · refine tq_aload_n dX8_readBoard_95 rfl ?_
    refine tq_dup dX8_readBoard_96 rfl ?_
    refine tm_gi (k9 := 42) dX8_readBoard_97 rfl rfl ?_
    refine tq_iconst (v := 1) dX8_readBoard_100 (by decide) ?_
    refine tq_iadd dX8_readBoard_101 ?_
    refine tm_pi dX8_readBoard_102 rfl rfl (fun s102 => ?_)
    exact tq_return dX8_readBoard_105 rfl rfl
theorem wfm_readBoard_j85 {G : ai_G} {d M : Nat} {h0 : ai_H} (j1 : JV)   (s : mS) (t1 : Int32): Tj G (d + 4) 107 (PmV M h0) (fm_readBoard_j85 s t1) 85 [some (.ref M), j1.1] [.int t1, .ref (M + 14)] (mH M s h0) := by
  unfold fm_readBoard_j85
  refine tq_bipush (v := 20) dX8_readBoard_85 (by decide) ?_
  exact wfm_readBoard_j87 j1 _ _ _
theorem wfm_readBoard {G : ai_G} {d M : Nat} {h0 : ai_H} (s : mS) : ∀ r, fm_readBoard s = some r → (PmV M h0) r (ai_call G (d + 5) 107 [.ref M] (mH M s h0)) := by
  refine tq_meth (P := (PmV M h0)) (d := (d + 4)) (Nat.le_of_ble_eq_true rfl) ?_
  show Tj G (d + 4) 107 (PmV M h0) (fm_readBoard s) 0 [some (.ref M), none] [] (mH M s h0)
  unfold fm_readBoard
  refine tq_aload_n dX8_readBoard_0 rfl ?_
  refine tq_iconst (v := 0) dX8_readBoard_1 (by decide) ?_
  refine tq_aload_n dX8_readBoard_2 rfl ?_
  refine tm_gi (k9 := 42) dX8_readBoard_3 rfl rfl ?_
  refine tm_c2_V dX8_readBoard_6 rfl rfl rfl (Nat.le_of_ble_eq_true rfl) (wfm_newName (d := d + 1) _ _ _) (fun p6 => ?_)
  refine tq_aload_n dX8_readBoard_9 rfl ?_
  refine tm_gi (k9 := 42) dX8_readBoard_10 rfl rfl ?_
  refine tq_istore_n (L' := [_, _]) dX8_readBoard_13 (Nat.le_of_ble_eq_true rfl) rfl ?_
  refine tq_aload_n dX8_readBoard_14 rfl ?_
  refine tm_ga (j := 12) dX8_readBoard_15 rfl rfl ?_
  refine tq_iload_n dX8_readBoard_18 rfl ?_
  refine tq_aload_n dX8_readBoard_19 rfl ?_
  refine tq_ldc2 (v := .long 2003395685) dX8_readBoard_20 rfl ?_
  refine tq_iconst (v := 0) dX8_readBoard_23 (by decide) ?_
  refine tq_bipush (v := 99) dX8_readBoard_24 (by decide) ?_
  refine tm_c3_I dX8_readBoard_26 rfl rfl rfl (Nat.le_of_ble_eq_true rfl) (wfm_told (d := d) _ _ _ _) (fun p26 => ?_)
  refine tm_ist dX8_readBoard_29 rfl (fun s29 => ?_)
  refine tq_aload_n dX8_readBoard_30 rfl ?_
  refine tm_ga (j := 13) dX8_readBoard_31 rfl rfl ?_
  refine tq_iload_n dX8_readBoard_34 rfl ?_
  refine tq_aload_n dX8_readBoard_35 rfl ?_
  refine tq_ldc2 (v := .long 24948) dX8_readBoard_36 rfl ?_
  refine tq_iconst (v := 0) dX8_readBoard_39 (by decide) ?_
  refine tq_aload_n dX8_readBoard_40 rfl ?_
  refine tm_gi (k9 := 38) dX8_readBoard_41 rfl rfl ?_
  refine tq_iconst (v := 1) dX8_readBoard_44 (by decide) ?_
  refine tq_isub dX8_readBoard_45 ?_
  refine tm_c3_I dX8_readBoard_46 rfl rfl rfl (Nat.le_of_ble_eq_true rfl) (wfm_told (d := d) _ _ _ _) (fun p46 => ?_)
  refine tm_ist dX8_readBoard_49 rfl (fun s49 => ?_)
  refine tq_aload_n dX8_readBoard_50 rfl ?_
  refine tm_ga (j := 14) dX8_readBoard_51 rfl rfl ?_
  refine tq_iload_n dX8_readBoard_54 rfl ?_
  refine tq_aload_n dX8_readBoard_55 rfl ?_
  refine tm_gi (k9 := 2) dX8_readBoard_56 rfl rfl ?_
  refine tq_if_ne dX8_readBoard_59 rfl ?_ ?_
  · exact wfm_readBoard_j85 ⟨some (.int (p6.1 42)), rfl⟩ _ _
  · refine tq_aload_n dX8_readBoard_62 rfl ?_
    refine tq_ldc2 (v := .long 422607680115) dX8_readBoard_63 rfl ?_
    refine tm_c1_i dX8_readBoard_66 rfl rfl rfl (Nat.le_of_ble_eq_true rfl) (wfm_isWord (d := d + 3) _ _) (fun p66 => ?_)
    refine tq_if_eq dX8_readBoard_69 rfl ?_ ?_
    · exact wfm_readBoard_j85 ⟨some (.int (p6.1 42)), rfl⟩ _ _
    · refine tq_aload_n dX8_readBoard_72 rfl ?_
      refine tq_ldc2 (v := .long 422607680115) dX8_readBoard_73 rfl ?_
      refine tq_iconst (v := 0) dX8_readBoard_76 (by decide) ?_
      refine tq_bipush (v := 99) dX8_readBoard_77 (by decide) ?_
      refine tm_c3_I dX8_readBoard_79 rfl rfl rfl (Nat.le_of_ble_eq_true rfl) (wfm_told (d := d) _ _ _ _) (fun p79 => ?_)
      refine tq_goto dX8_readBoard_82 rfl ?_
      exact wfm_readBoard_j87 ⟨some (.int (p6.1 42)), rfl⟩ _ _ _
theorem wfm_readLoad {G : ai_G} {d M : Nat} {h0 : ai_H} (s : mS) : ∀ r, fm_readLoad s = some r → (PmV M h0) r (ai_call G (d + 5) 108 [.ref M] (mH M s h0)) := by
  refine tq_meth (P := (PmV M h0)) (d := (d + 4)) (Nat.le_of_ble_eq_true rfl) ?_
  show Tj G (d + 4) 108 (PmV M h0) (fm_readLoad s) 0 [some (.ref M)] [] (mH M s h0)
  unfold fm_readLoad
  refine tq_aload_n dX8_readLoad_0 rfl ?_
  refine tq_iconst (v := 4) dX8_readLoad_1 (by decide) ?_
  refine tq_aload_n dX8_readLoad_2 rfl ?_
  refine tm_gi (k9 := 43) dX8_readLoad_3 rfl rfl ?_
  refine tm_c2_V dX8_readLoad_6 rfl rfl rfl (Nat.le_of_ble_eq_true rfl) (wfm_newName (d := d + 1) _ _ _) (fun p6 => ?_)
  refine tq_aload_n dX8_readLoad_9 rfl ?_
  refine tm_ga (j := 15) dX8_readLoad_10 rfl rfl ?_
  refine tq_aload_n dX8_readLoad_13 rfl ?_
  refine tm_gi (k9 := 43) dX8_readLoad_14 rfl rfl ?_
  refine tq_aload_n dX8_readLoad_17 rfl ?_
  refine tq_ldc2 (v := .long 2003395685) dX8_readLoad_18 rfl ?_
  refine tq_iconst (v := 0) dX8_readLoad_21 (by decide) ?_
  refine tq_bipush (v := 99) dX8_readLoad_22 (by decide) ?_
  refine tm_c3_I dX8_readLoad_24 rfl rfl rfl (Nat.le_of_ble_eq_true rfl) (wfm_told (d := d) _ _ _ _) (fun p24 => ?_)
  refine tm_ist dX8_readLoad_27 rfl (fun s27 => ?_)
  refine tq_aload_n dX8_readLoad_28 rfl ?_
  refine tm_gi (k9 := 2) dX8_readLoad_29 rfl rfl ?_
  refine tq_if_ne dX8_readLoad_32 rfl ?_ ?_
  · exact tq_return dX8_readLoad_45 rfl rfl
  · refine tq_aload_n dX8_readLoad_35 rfl ?_
    refine tq_dup dX8_readLoad_36 rfl ?_
    refine tm_gi (k9 := 43) dX8_readLoad_37 rfl rfl ?_
    refine tq_iconst (v := 1) dX8_readLoad_40 (by decide) ?_
    refine tq_iadd dX8_readLoad_41 ?_
    refine tm_pi dX8_readLoad_42 rfl rfl (fun s42 => ?_)
    exact tq_return dX8_readLoad_45 rfl rfl
theorem wfm_tight {G : ai_G} {d : Nat} {h : ai_H} (v0 : Int32) : ∀ r, fm_tight v0 = some r → (Pi h) r (ai_call G (d + 1) 109 [.int v0] h) := by
  refine tq_meth (P := (Pi h)) (d := d) (Nat.le_of_ble_eq_true rfl) ?_
  show Tj G d 109 (Pi h) (fm_tight v0) 0 [some (.int v0)] [] h
  unfold fm_tight
  refine tq_iload_n dX8_tight_0 rfl ?_
  refine tq_case (fun c21 => ?_) (fun c21 => ?_)
  · rw [c21]
    refine tq_lsw (t := 80) dX8_tight_1 (by decide) (by decide) ?_
    refine tq_iconst (v := 3) dX8_tight_80 (by decide) ?_
    exact tq_ireturn dX8_tight_81 rfl rfl
  refine tq_case (fun c38 => ?_) (fun c38 => ?_)
  · rw [c38]
    refine tq_lsw (t := 78) dX8_tight_1 (by decide) (by decide) ?_
    refine tq_iconst (v := 2) dX8_tight_78 (by decide) ?_
    exact tq_ireturn dX8_tight_79 rfl rfl
  refine tq_case (fun c43 => ?_) (fun c43 => ?_)
  · rw [c43]
    refine tq_lsw (t := 84) dX8_tight_1 (by decide) (by decide) ?_
    refine tq_iconst (v := 5) dX8_tight_84 (by decide) ?_
    exact tq_ireturn dX8_tight_85 rfl rfl
  refine tq_case (fun c45 => ?_) (fun c45 => ?_)
  · rw [c45]
    refine tq_lsw (t := 84) dX8_tight_1 (by decide) (by decide) ?_
    refine tq_iconst (v := 5) dX8_tight_84 (by decide) ?_
    exact tq_ireturn dX8_tight_85 rfl rfl
  refine tq_case (fun c60 => ?_) (fun c60 => ?_)
  · rw [c60]
    refine tq_lsw (t := 82) dX8_tight_1 (by decide) (by decide) ?_
    refine tq_iconst (v := 4) dX8_tight_82 (by decide) ?_
    exact tq_ireturn dX8_tight_83 rfl rfl
  refine tq_case (fun c61 => ?_) (fun c61 => ?_)
  · rw [c61]
    refine tq_lsw (t := 82) dX8_tight_1 (by decide) (by decide) ?_
    refine tq_iconst (v := 4) dX8_tight_82 (by decide) ?_
    exact tq_ireturn dX8_tight_83 rfl rfl
  refine tq_case (fun c62 => ?_) (fun c62 => ?_)
  · rw [c62]
    refine tq_lsw (t := 82) dX8_tight_1 (by decide) (by decide) ?_
    refine tq_iconst (v := 4) dX8_tight_82 (by decide) ?_
    exact tq_ireturn dX8_tight_83 rfl rfl
  refine tq_case (fun c124 => ?_) (fun c124 => ?_)
  · rw [c124]
    refine tq_lsw (t := 76) dX8_tight_1 (by decide) (by decide) ?_
    refine tq_iconst (v := 1) dX8_tight_76 (by decide) ?_
    exact tq_ireturn dX8_tight_77 rfl rfl
  refine tq_lsw (t := 86) dX8_tight_1 (by decide) (lsw_d (ks := [21, 38, 43, 45, 60, 61, 62, 124]) (by decide) (by simp only [List.mem_cons, List.not_mem_nil, or_false]; rintro k (rfl | rfl | rfl | rfl | rfl | rfl | rfl | rfl) <;> assumption) (by decide)) ?_
  refine tq_bipush (v := 6) dX8_tight_86 (by decide) ?_
  exact tq_ireturn dX8_tight_88 rfl rfl
theorem wfm_mayNot {G : ai_G} {d M : Nat} {h0 : ai_H} (s : mS) : ∀ r, fm_mayNot s = some r → (Pi (mH M s h0)) r (ai_call G (d + 2) 110 [.ref M] (mH M s h0)) := by
  refine tq_meth (P := (Pi (mH M s h0))) (d := (d + 1)) (Nat.le_of_ble_eq_true rfl) ?_
  show Tj G (d + 1) 110 (Pi (mH M s h0)) (fm_mayNot s) 0 [some (.ref M)] [] (mH M s h0)
  unfold fm_mayNot
  refine tq_aload_n dX8_mayNot_0 rfl ?_
  refine tm_gi (k9 := 19) dX8_mayNot_1 rfl rfl ?_
  refine tq_if_eq dX8_mayNot_4 rfl ?_ ?_
  · refine tq_iconst (v := 1) dX8_mayNot_41 (by decide) ?_
    refine tq_goto dX8_mayNot_42 rfl ?_
    exact tq_ireturn dX8_mayNot_46 (by decide) rfl
  · refine tq_aload_n dX8_mayNot_7 rfl ?_
    refine tm_ga (j := 7) dX8_mayNot_8 rfl rfl ?_
    refine tq_aload_n dX8_mayNot_11 rfl ?_
    refine tm_gi (k9 := 19) dX8_mayNot_12 rfl rfl ?_
    refine tq_iconst (v := 1) dX8_mayNot_15 (by decide) ?_
    refine tq_isub dX8_mayNot_16 ?_
    refine tm_ild dX8_mayNot_17 rfl (fun x17 => ?_)
    refine tq_bipush (v := 20) dX8_mayNot_18 (by decide) ?_
    refine tq_icmp_eq dX8_mayNot_20 rfl ?_ ?_
    · refine tq_iconst (v := 1) dX8_mayNot_41 (by decide) ?_
      refine tq_goto dX8_mayNot_42 rfl ?_
      exact tq_ireturn dX8_mayNot_46 (by decide) rfl
    · refine tq_aload_n dX8_mayNot_23 rfl ?_
      refine tm_ga (j := 7) dX8_mayNot_24 rfl rfl ?_
      refine tq_aload_n dX8_mayNot_27 rfl ?_
      refine tm_gi (k9 := 19) dX8_mayNot_28 rfl rfl ?_
      refine tq_iconst (v := 1) dX8_mayNot_31 (by decide) ?_
      refine tq_isub dX8_mayNot_32 ?_
      refine tm_ild dX8_mayNot_33 rfl (fun x33 => ?_)
      refine ts_c1_i dX8_mayNot_34 rfl rfl rfl (Nat.le_of_ble_eq_true rfl) (wfm_tight (d := d) _) (fun p34 => ?_)
      refine tq_iconst (v := 4) dX8_mayNot_37 (by decide) ?_
      refine tq_icmp_ge dX8_mayNot_38 rfl ?_ ?_
      · refine tq_iconst (v := 0) dX8_mayNot_45 (by decide) ?_
        exact tq_ireturn dX8_mayNot_46 (by decide) rfl
      · refine tq_iconst (v := 1) dX8_mayNot_41 (by decide) ?_
        refine tq_goto dX8_mayNot_42 rfl ?_
        exact tq_ireturn dX8_mayNot_46 (by decide) rfl
theorem wfm_openUp {G : ai_G} {d M : Nat} {h0 : ai_H} (s : mS) (v1 : Int32) : ∀ r, fm_openUp s v1 = some r → (PmV M h0) r (ai_call G (d + 3) 111 [.ref M, .int v1] (mH M s h0)) := by
  refine tq_meth (P := (PmV M h0)) (d := (d + 2)) (Nat.le_of_ble_eq_true rfl) ?_
  show Tj G (d + 2) 111 (PmV M h0) (fm_openUp s v1) 0 [some (.ref M), some (.int v1)] [] (mH M s h0)
  unfold fm_openUp
  refine tq_aload_n dX8_openUp_0 rfl ?_
  refine tm_ga (j := 7) dX8_openUp_1 rfl rfl ?_
  refine tq_aload_n dX8_openUp_4 rfl ?_
  refine tm_gi (k9 := 19) dX8_openUp_5 rfl rfl ?_
  refine tq_iload_n dX8_openUp_8 rfl ?_
  refine tm_ist dX8_openUp_9 rfl (fun s9 => ?_)
  refine tq_aload_n dX8_openUp_10 rfl ?_
  refine tq_dup dX8_openUp_11 rfl ?_
  refine tm_gi (k9 := 19) dX8_openUp_12 rfl rfl ?_
  refine tq_iconst (v := 1) dX8_openUp_15 (by decide) ?_
  refine tq_iadd dX8_openUp_16 ?_
  refine tm_pi dX8_openUp_17 rfl rfl (fun s17 => ?_)
  refine tq_aload_n dX8_openUp_20 rfl ?_
  refine tq_dup dX8_openUp_21 rfl ?_
  refine tm_gi (k9 := 23) dX8_openUp_22 rfl rfl ?_
  refine tq_iconst (v := 1) dX8_openUp_25 (by decide) ?_
  refine tq_iadd dX8_openUp_26 ?_
  refine tm_pi dX8_openUp_27 rfl rfl (fun s27 => ?_)
  refine tq_aload_n dX8_openUp_30 rfl ?_
  refine tm_gi (k9 := 2) dX8_openUp_31 rfl rfl ?_
  refine tq_if_ne dX8_openUp_34 rfl ?_ ?_
  · exact tq_return dX8_openUp_41 rfl rfl
  · refine tq_aload_n dX8_openUp_37 rfl ?_
    refine tm_c0_V dX8_openUp_38 rfl rfl rfl (Nat.le_of_ble_eq_true rfl) (wfm_token (d := d) _) (fun p38 => ?_)
    exact tq_return dX8_openUp_41 rfl rfl
theorem wfm_isFull {G : ai_G} {d M : Nat} {h0 : ai_H} (s : mS) : ∀ r, fm_isFull s = some r → (Pi (mH M s h0)) r (ai_call G (d + 1) 112 [.ref M] (mH M s h0)) := by
  refine tq_meth (P := (Pi (mH M s h0))) (d := d) (Nat.le_of_ble_eq_true rfl) ?_
  show Tj G d 112 (Pi (mH M s h0)) (fm_isFull s) 0 [some (.ref M)] [] (mH M s h0)
  unfold fm_isFull
  refine tq_aload_n dX8_isFull_0 rfl ?_
  refine tm_gi (k9 := 20) dX8_isFull_1 rfl rfl ?_
  refine tq_bipush (v := 60) dX8_isFull_4 (by decide) ?_
  refine tq_icmp_eq dX8_isFull_6 rfl ?_ ?_
  · refine tq_iconst (v := 1) dX8_isFull_18 (by decide) ?_
    refine tq_goto dX8_isFull_19 rfl ?_
    exact tq_ireturn dX8_isFull_23 (by decide) rfl
  · refine tq_aload_n dX8_isFull_9 rfl ?_
    refine tm_gi (k9 := 22) dX8_isFull_10 rfl rfl ?_
    refine tq_bipush (v := 30) dX8_isFull_13 (by decide) ?_
    refine tq_icmp_ne dX8_isFull_15 rfl ?_ ?_
    · refine tq_iconst (v := 0) dX8_isFull_22 (by decide) ?_
      exact tq_ireturn dX8_isFull_23 (by decide) rfl
    · refine tq_iconst (v := 1) dX8_isFull_18 (by decide) ?_
      refine tq_goto dX8_isFull_19 rfl ?_
      exact tq_ireturn dX8_isFull_23 (by decide) rfl
theorem wfm_countUnit {G : ai_G} {d M : Nat} {h0 : ai_H} (s : mS) : ∀ r, fm_countUnit s = some r → (PmV M h0) r (ai_call G (d + 1) 113 [.ref M] (mH M s h0)) := by
  refine tq_meth (P := (PmV M h0)) (d := d) (Nat.le_of_ble_eq_true rfl) ?_
  show Tj G d 113 (PmV M h0) (fm_countUnit s) 0 [some (.ref M)] [] (mH M s h0)
  unfold fm_countUnit
  refine tq_aload_n dX8_countUnit_0 rfl ?_
  refine tq_dup dX8_countUnit_1 rfl ?_
  refine tm_gi (k9 := 20) dX8_countUnit_2 rfl rfl ?_
  refine tq_iconst (v := 1) dX8_countUnit_5 (by decide) ?_
  refine tq_iadd dX8_countUnit_6 ?_
  refine tm_pi dX8_countUnit_7 rfl rfl (fun s7 => ?_)
  refine tq_aload_n dX8_countUnit_10 rfl ?_
  refine tq_dup dX8_countUnit_11 rfl ?_
  refine tm_gi (k9 := 22) dX8_countUnit_12 rfl rfl ?_
  refine tq_iconst (v := 1) dX8_countUnit_15 (by decide) ?_
  refine tq_iadd dX8_countUnit_16 ?_
  refine tm_pi dX8_countUnit_17 rfl rfl (fun s17 => ?_)
  exact tq_return dX8_countUnit_20 rfl rfl
theorem wfm_asked {G : ai_G} {d M : Nat} {h0 : ai_H} (s : mS) : ∀ r, fm_asked s = some r → (Pi (mH M s h0)) r (ai_call G (d + 1) 114 [.ref M] (mH M s h0)) := by
  refine tq_meth (P := (Pi (mH M s h0))) (d := d) (Nat.le_of_ble_eq_true rfl) ?_
  show Tj G d 114 (Pi (mH M s h0)) (fm_asked s) 0 [some (.ref M)] [] (mH M s h0)
  unfold fm_asked
  refine tq_aload_n dX8_asked_0 rfl ?_
  refine tm_gi (k9 := 6) dX8_asked_1 rfl rfl ?_
  refine tq_iconst (v := 1) dX8_asked_4 (by decide) ?_
  refine tq_icmp_eq dX8_asked_5 rfl ?_ ?_
  · refine tq_aload_n dX8_asked_10 rfl ?_
    refine tm_gw dX8_asked_11 rfl rfl ?_
    refine tq_ldc2 (v := .long 7499639) dX8_asked_14 rfl ?_
    refine tq_lcmp dX8_asked_17 ?_
    refine tq_if_ne dX8_asked_18 rfl ?_ ?_
    · refine tq_aload_n dX8_asked_23 rfl ?_
      refine tm_gw dX8_asked_24 rfl rfl ?_
      refine tq_ldc2 (v := .long 109330212154734) dX8_asked_27 rfl ?_
      refine tq_lcmp dX8_asked_30 ?_
      refine tq_if_ne dX8_asked_31 rfl ?_ ?_
      · refine tq_aload_n dX8_asked_36 rfl ?_
        refine tm_gw dX8_asked_37 rfl rfl ?_
        refine tq_ldc2 (v := .long 1819238756) dX8_asked_40 rfl ?_
        refine tq_lcmp dX8_asked_43 ?_
        refine tq_if_ne dX8_asked_44 rfl ?_ ?_
        · refine tq_aload_n dX8_asked_49 rfl ?_
          refine tm_gw dX8_asked_50 rfl rfl ?_
          refine tq_ldc2 (v := .long 2003395685) dX8_asked_53 rfl ?_
          refine tq_lcmp dX8_asked_56 ?_
          refine tq_if_ne dX8_asked_57 rfl ?_ ?_
          · refine tq_aload_n dX8_asked_62 rfl ?_
            refine tm_gw dX8_asked_63 rfl rfl ?_
            refine tq_ldc2 (v := .long 32497657166128499) dX8_asked_66 rfl ?_
            refine tq_lcmp dX8_asked_69 ?_
            refine tq_if_ne dX8_asked_70 rfl ?_ ?_
            · refine tq_aload_n dX8_asked_75 rfl ?_
              refine tm_gw dX8_asked_76 rfl rfl ?_
              refine tq_ldc2 (v := .long 6844276) dX8_asked_79 rfl ?_
              refine tq_lcmp dX8_asked_82 ?_
              refine tq_if_ne dX8_asked_83 rfl ?_ ?_
              · refine tq_iconst (v := (-1)) dX8_asked_90 (by decide) ?_
                exact tq_ireturn dX8_asked_91 rfl rfl
              · refine tq_iconst (v := 5) dX8_asked_86 (by decide) ?_
                refine tq_goto dX8_asked_87 rfl ?_
                exact tq_ireturn dX8_asked_91 rfl rfl
            · refine tq_iconst (v := 4) dX8_asked_73 (by decide) ?_
              exact tq_ireturn dX8_asked_74 rfl rfl
          · refine tq_iconst (v := 3) dX8_asked_60 (by decide) ?_
            exact tq_ireturn dX8_asked_61 rfl rfl
        · refine tq_iconst (v := 2) dX8_asked_47 (by decide) ?_
          exact tq_ireturn dX8_asked_48 rfl rfl
      · refine tq_iconst (v := 1) dX8_asked_34 (by decide) ?_
        exact tq_ireturn dX8_asked_35 rfl rfl
    · refine tq_iconst (v := 0) dX8_asked_21 (by decide) ?_
      exact tq_ireturn dX8_asked_22 rfl rfl
  · refine tq_iconst (v := (-1)) dX8_asked_8 (by decide) ?_
    exact tq_ireturn dX8_asked_9 rfl rfl
theorem wfm_add {G : ai_G} {d M : Nat} {h0 : ai_H} (s : mS) (v1 : Int32) (v2 : Int32) : ∀ r, fm_add s v1 v2 = some r → (PmV M h0) r (ai_call G (d + 1) 115 [.ref M, .int v1, .int v2] (mH M s h0)) := by
  refine tq_meth (P := (PmV M h0)) (d := d) (Nat.le_of_ble_eq_true rfl) ?_
  show Tj G d 115 (PmV M h0) (fm_add s v1 v2) 0 [some (.ref M), some (.int v1), some (.int v2)] [] (mH M s h0)
  unfold fm_add
  refine tq_aload_n dX8_add_0 rfl ?_
  refine tm_ga (j := 3) dX8_add_1 rfl rfl ?_
  refine tq_aload_n dX8_add_4 rfl ?_
  refine tm_gi (k9 := 17) dX8_add_5 rfl rfl ?_
  refine tq_iload_n dX8_add_8 rfl ?_
  refine tm_ist dX8_add_9 rfl (fun s9 => ?_)
  refine tq_aload_n dX8_add_10 rfl ?_
  refine tm_ga (j := 4) dX8_add_11 rfl rfl ?_
  refine tq_aload_n dX8_add_14 rfl ?_
  refine tm_gi (k9 := 17) dX8_add_15 rfl rfl ?_
  refine tq_iload_n dX8_add_18 rfl ?_
  refine tm_ist dX8_add_19 rfl (fun s19 => ?_)
  refine tq_aload_n dX8_add_20 rfl ?_
  refine tq_dup dX8_add_21 rfl ?_
  refine tm_gi (k9 := 17) dX8_add_22 rfl rfl ?_
  refine tq_iconst (v := 1) dX8_add_25 (by decide) ?_
  refine tq_iadd dX8_add_26 ?_
  refine tm_pi dX8_add_27 rfl rfl (fun s27 => ?_)
  exact tq_return dX8_add_30 rfl rfl
abbrev Pfm_unit_b2 (G : ai_G) (d M : Nat) (h0 : ai_H)  : (Int32 × mS) ⊕ mS → Option ai_R → Prop := Sum.elim (fun (q : Int32 × mS) run => ∃ J : JV, run = ai_run G (d + 3) 116 2 [some (.ref M), some (.int q.1), J.1] [] (mH M q.2 h0)) (fun (q : mS) run => ∃ J : JV × JV, run = ai_run G (d + 3) 116 101 [some (.ref M), J.1.1, J.2.1] [] (mH M q h0))
theorem Bfm_unit_b2 {G : ai_G} {d M : Nat} {h0 : ai_H}  (b0 : Int32) (b1 : mS) (J : JV) : Tj G (d + 3) 116 (Pfm_unit_b2 G d M h0) (some (.inl (b0, b1))) 2 [some (.ref M), some (.int b0), J.1] [] (mH M b1 h0) := tq_back J rfl rfl
theorem Efm_unit_b2 {G : ai_G} {d M : Nat} {h0 : ai_H}  (b0 : mS) (J : JV × JV) : Tj G (d + 3) 116 (Pfm_unit_b2 G d M h0) (some (.inr b0)) 101 [some (.ref M), J.1.1, J.2.1] [] (mH M b0 h0) := tq_exit J rfl rfl
theorem wfm_unit_j78 {G : ai_G} {d M : Nat} {h0 : ai_H} (j2 : JV)   (s : mS) (v1 : Int32): Tj G (d + 3) 116 (Pfm_unit_b2 G d M h0) (fm_unit_j78 s v1) 78 [some (.ref M), some (.int v1), j2.1] [] (mH M s h0) := by
  unfold fm_unit_j78
  refine tq_aload_n dX8_unit_78 rfl ?_
  refine tq_iconst (v := 2) dX8_unit_79 (by decide) ?_
  refine tm_c1_V dX8_unit_80 rfl rfl rfl (Nat.le_of_ble_eq_true rfl) (wfm_wrong (d := d + 2) _ _) (fun p80 => ?_)
  refine tq_aload_n dX8_unit_83 rfl ?_
  refine tm_c0_V dX8_unit_84 rfl rfl rfl (Nat.le_of_ble_eq_true rfl) (wfm_countUnit (d := d + 2) _) (fun p84 => ?_)
  refine tq_aload_n dX8_unit_87 rfl ?_
  refine tq_bipush (v := 20) dX8_unit_88 (by decide) ?_
  refine tm_c1_V dX8_unit_90 rfl rfl rfl (Nat.le_of_ble_eq_true rfl) (wfm_openUp (d := d) _ _) (fun p90 => ?_)
  refine tq_goto dX8_unit_93 rfl ?_
  exact Bfm_unit_b2 _ _ j2
theorem wfm_unit_j53 {G : ai_G} {d M : Nat} {h0 : ai_H} (j2 : JV)   (s : mS) (v1 : Int32): Tj G (d + 3) 116 (Pfm_unit_b2 G d M h0) (fm_unit_j53 s v1) 53 [some (.ref M), some (.int v1), j2.1] [] (mH M s h0) := by
  unfold fm_unit_j53
  refine tq_aload_n dX8_unit_53 rfl ?_
  refine tm_gi (k9 := 6) dX8_unit_54 rfl rfl ?_
  refine tq_bipush (v := 40) dX8_unit_57 (by decide) ?_
  refine tq_icmp_ne dX8_unit_59 rfl ?_ ?_
  · refine tq_iconst (v := 0) dX8_unit_96 (by decide) ?_
    refine tq_istore_n (L' := [_, _, _]) dX8_unit_97 (Nat.le_of_ble_eq_true rfl) rfl ?_
    refine tq_goto dX8_unit_98 rfl ?_
    exact Bfm_unit_b2 _ _ j2
  · refine tq_aload_n dX8_unit_62 rfl ?_
    refine tm_c0_i dX8_unit_63 rfl rfl rfl (Nat.le_of_ble_eq_true rfl) (wfm_isFull (d := d + 2) _) (fun p63 => ?_)
    refine tq_if_ne dX8_unit_66 rfl ?_ ?_
    · exact wfm_unit_j78 j2 _ _
    · refine tq_aload_n dX8_unit_69 rfl ?_
      refine tm_gi (k9 := 23) dX8_unit_70 rfl rfl ?_
      refine tq_bipush (v := 6) dX8_unit_73 (by decide) ?_
      refine tq_icmp_le dX8_unit_75 rfl ?_ ?_
      · refine tq_aload_n dX8_unit_83 rfl ?_
        refine tm_c0_V dX8_unit_84 rfl rfl rfl (Nat.le_of_ble_eq_true rfl) (wfm_countUnit (d := d + 2) _) (fun p84 => ?_)
        refine tq_aload_n dX8_unit_87 rfl ?_
        refine tq_bipush (v := 20) dX8_unit_88 (by decide) ?_
        refine tm_c1_V dX8_unit_90 rfl rfl rfl (Nat.le_of_ble_eq_true rfl) (wfm_openUp (d := d) _ _) (fun p90 => ?_)
        refine tq_goto dX8_unit_93 rfl ?_
        exact Bfm_unit_b2 _ _ j2
      · exact wfm_unit_j78 j2 _ _
theorem wfm_unit_b2 {G : ai_G} {d M : Nat} {h0 : ai_H}  (q : Int32 × mS) (J : JV) : Tj G (d + 3) 116 (Pfm_unit_b2 G d M h0) (fm_unit_b2 q) 2 [some (.ref M), some (.int q.1), J.1] [] (mH M q.2 h0) := by
  unfold fm_unit_b2
  refine tq_iload_n dX8_unit_2 rfl ?_
  refine tq_if_eq dX8_unit_3 rfl ?_ ?_
  · exact Efm_unit_b2 _ (⟨some (.int q.1), rfl⟩, J)
  · refine tq_aload_n dX8_unit_6 rfl ?_
    refine tm_gi (k9 := 2) dX8_unit_7 rfl rfl ?_
    refine tq_if_ne dX8_unit_10 rfl ?_ ?_
    · exact Efm_unit_b2 _ (⟨some (.int q.1), rfl⟩, J)
    · refine tq_aload_n dX8_unit_13 rfl ?_
      refine tq_ldc2 (v := .long 7237492) dX8_unit_14 rfl ?_
      refine tm_c1_i dX8_unit_17 rfl rfl rfl (Nat.le_of_ble_eq_true rfl) (wfm_isWord (d := d + 2) _ _) (fun p17 => ?_)
      refine tq_if_eq dX8_unit_20 rfl ?_ ?_
      · exact wfm_unit_j53 J _ _
      · refine tq_aload_n dX8_unit_23 rfl ?_
        refine tm_c0_i dX8_unit_24 rfl rfl rfl (Nat.le_of_ble_eq_true rfl) (wfm_mayNot (d := d + 1) _) (fun p24 => ?_)
        refine tq_if_eq dX8_unit_27 rfl ?_ ?_
        · exact wfm_unit_j53 J _ _
        · refine tq_aload_n dX8_unit_30 rfl ?_
          refine tm_gi (k9 := 23) dX8_unit_31 rfl rfl ?_
          refine tq_bipush (v := 6) dX8_unit_34 (by decide) ?_
          refine tq_icmp_le dX8_unit_36 rfl ?_ ?_
          · refine tq_aload_n dX8_unit_44 rfl ?_
            refine tq_bipush (v := 21) dX8_unit_45 (by decide) ?_
            refine tm_c1_V dX8_unit_47 rfl rfl rfl (Nat.le_of_ble_eq_true rfl) (wfm_openUp (d := d) _ _) (fun p47 => ?_)
            refine tq_goto dX8_unit_50 rfl ?_
            exact Bfm_unit_b2 _ _ J
          · refine tq_aload_n dX8_unit_39 rfl ?_
            refine tq_iconst (v := 2) dX8_unit_40 (by decide) ?_
            refine tm_c1_V dX8_unit_41 rfl rfl rfl (Nat.le_of_ble_eq_true rfl) (wfm_wrong (d := d + 2) _ _) (fun p41 => ?_)
            refine tq_aload_n dX8_unit_44 rfl ?_
            refine tq_bipush (v := 21) dX8_unit_45 (by decide) ?_
            refine tm_c1_V dX8_unit_47 rfl rfl rfl (Nat.le_of_ble_eq_true rfl) (wfm_openUp (d := d) _ _) (fun p47 => ?_)
            refine tq_goto dX8_unit_50 rfl ?_
            exact Bfm_unit_b2 _ _ J
theorem Sfm_unit_b2 {G : ai_G} {d M : Nat} {h0 : ai_H} {α : Type} {P : α → Option ai_R → Prop}  (b0 : Int32) (b1 : mS) (J : JV) {r : mS → Option α} (kk : ∀ (q : mS) (J : JV × JV), Tj G (d + 3) 116 P (r q) 101 [some (.ref M), J.1.1, J.2.1] [] (mH M q h0)) : Tj G (d + 3) 116 P ((lp fm_unit_b2 (b0, b1)).bind r) 2 [some (.ref M), some (.int b0), J.1] [] (mH M b1 h0) := tq_lp1 (J := J) (fun q J => wfm_unit_b2  q J) rfl rfl kk
theorem wfm_unit_j160 {G : ai_G} {d M : Nat} {h0 : ai_H} (j1 : JV)   (s : mS) (v2 : Int32) (t1 : Int32): Tj G (d + 3) 116 (PmV M h0) (fm_unit_j160 s v2 t1) 160 [some (.ref M), j1.1, some (.int v2)] [.int t1, .ref M] (mH M s h0) := by
  unfold fm_unit_j160
  refine tq_iload_n dX8_unit_160 rfl ?_
  refine tq_if_ge dX8_unit_161 rfl ?_ ?_
  · refine tq_iload_n dX8_unit_171 rfl ?_
    refine tm_c2_V dX8_unit_172 rfl rfl rfl (Nat.le_of_ble_eq_true rfl) (wfm_add (d := d + 2) _ _ _) (fun p172 => ?_)
    refine tq_aload_n dX8_unit_175 rfl ?_
    refine tm_c0_V dX8_unit_176 rfl rfl rfl (Nat.le_of_ble_eq_true rfl) (wfm_token (d := d + 1) _) (fun p176 => ?_)
    exact tq_return dX8_unit_179 rfl rfl
  · refine tq_aload_n dX8_unit_164 rfl ?_
    refine tm_gi (k9 := 8) dX8_unit_165 rfl rfl ?_
    refine tq_goto dX8_unit_168 rfl ?_
    refine tm_c2_V dX8_unit_172 rfl rfl rfl (Nat.le_of_ble_eq_true rfl) (wfm_add (d := d + 2) _ _ _) (fun p172 => ?_)
    refine tq_aload_n dX8_unit_175 rfl ?_
    refine tm_c0_V dX8_unit_176 rfl rfl rfl (Nat.le_of_ble_eq_true rfl) (wfm_token (d := d + 1) _) (fun p176 => ?_)
    exact tq_return dX8_unit_179 rfl rfl
theorem wfm_unit_j138 {G : ai_G} {d M : Nat} {h0 : ai_H} (j1 : JV)   (s : mS) (v2 : Int32): Tj G (d + 3) 116 (PmV M h0) (fm_unit_j138 s v2) 138 [some (.ref M), j1.1, some (.int v2)] [] (mH M s h0) := by
  unfold fm_unit_j138
  refine tq_aload_n dX8_unit_138 rfl ?_
  refine tm_gi (k9 := 2) dX8_unit_139 rfl rfl ?_
  refine tq_if_le dX8_unit_142 rfl ?_ ?_
  · refine tq_aload_n dX8_unit_146 rfl ?_
    refine tm_c0_V dX8_unit_147 rfl rfl rfl (Nat.le_of_ble_eq_true rfl) (wfm_countUnit (d := d + 2) _) (fun p147 => ?_)
    refine tq_aload_n dX8_unit_150 rfl ?_
    refine tq_iload_n dX8_unit_151 rfl ?_
    refine tq_if_ge dX8_unit_152 rfl ?_ ?_
    · refine tq_iconst (v := 1) dX8_unit_159 (by decide) ?_
      exact wfm_unit_j160 j1 _ _ _
    · refine tq_iconst (v := 0) dX8_unit_155 (by decide) ?_
      refine tq_goto dX8_unit_156 rfl ?_
      exact wfm_unit_j160 j1 _ _ _
  · exact tq_return dX8_unit_145 rfl rfl
theorem wfm_unit_j133 {G : ai_G} {d M : Nat} {h0 : ai_H} (j1 : JV)   (s : mS) (v2 : Int32): Tj G (d + 3) 116 (PmV M h0) (fm_unit_j133 s v2) 133 [some (.ref M), j1.1, some (.int v2)] [] (mH M s h0) := by
  unfold fm_unit_j133
  refine tq_aload_n dX8_unit_133 rfl ?_
  refine tq_iconst (v := 2) dX8_unit_134 (by decide) ?_
  refine tm_c1_V dX8_unit_135 rfl rfl rfl (Nat.le_of_ble_eq_true rfl) (wfm_wrong (d := d + 2) _ _) (fun p135 => ?_)
  exact wfm_unit_j138 j1 _ _
theorem wfm_unit_j101 {G : ai_G} {d M : Nat} {h0 : ai_H} (j1 : JV) (j2 : JV)   (s : mS): Tj G (d + 3) 116 (PmV M h0) (fm_unit_j101 s) 101 [some (.ref M), j1.1, j2.1] [] (mH M s h0) := by
  unfold fm_unit_j101
  refine tq_aload_n dX8_unit_101 rfl ?_
  refine tm_gi (k9 := 2) dX8_unit_102 rfl rfl ?_
  refine tq_if_le dX8_unit_105 rfl ?_ ?_
  · refine tq_aload_n dX8_unit_109 rfl ?_
    refine tm_c0_i dX8_unit_110 rfl rfl rfl (Nat.le_of_ble_eq_true rfl) (wfm_asked (d := d + 2) _) (fun p110 => ?_)
    refine tq_istore_n (L' := [_, _, _]) dX8_unit_113 (Nat.le_of_ble_eq_true rfl) (st1_jv (i := 1) (j := j1) rfl rfl) ?_
    refine tq_aload_n dX8_unit_114 rfl ?_
    refine tm_gi (k9 := 6) dX8_unit_115 rfl rfl ?_
    refine tq_iconst (v := 2) dX8_unit_118 (by decide) ?_
    refine tq_icmp_eq dX8_unit_119 rfl ?_ ?_
    · refine tq_aload_n dX8_unit_126 rfl ?_
      refine tm_c0_i dX8_unit_127 rfl rfl rfl (Nat.le_of_ble_eq_true rfl) (wfm_isFull (d := d + 2) _) (fun p127 => ?_)
      refine tq_if_eq dX8_unit_130 rfl ?_ ?_
      · exact wfm_unit_j138 j1 _ _
      · exact wfm_unit_j133 j1 _ _
    · refine tq_iload_n dX8_unit_122 rfl ?_
      refine tq_if_lt dX8_unit_123 rfl ?_ ?_
      · exact wfm_unit_j133 j1 _ _
      · refine tq_aload_n dX8_unit_126 rfl ?_
        refine tm_c0_i dX8_unit_127 rfl rfl rfl (Nat.le_of_ble_eq_true rfl) (wfm_isFull (d := d + 2) _) (fun p127 => ?_)
        refine tq_if_eq dX8_unit_130 rfl ?_ ?_
        · exact wfm_unit_j138 j1 _ _
        · exact wfm_unit_j133 j1 _ _
  · exact tq_return dX8_unit_108 rfl rfl
theorem wfm_unit {G : ai_G} {d M : Nat} {h0 : ai_H} (s : mS) : ∀ r, fm_unit s = some r → (PmV M h0) r (ai_call G (d + 4) 116 [.ref M] (mH M s h0)) := by
  refine tq_meth (P := (PmV M h0)) (d := (d + 3)) (Nat.le_of_ble_eq_true rfl) ?_
  show Tj G (d + 3) 116 (PmV M h0) (fm_unit s) 0 [some (.ref M), none, none] [] (mH M s h0)
  unfold fm_unit
  refine tq_iconst (v := 1) dX8_unit_0 (by decide) ?_
  refine tq_istore_n (L' := [_, _, _]) dX8_unit_1 (Nat.le_of_ble_eq_true rfl) rfl ?_
  refine Sfm_unit_b2 _ _ ⟨none, rfl⟩ (fun q2 J2 => ?_)
  exact wfm_unit_j101 J2.1 J2.2 _
theorem wfm_sign {G : ai_G} {d M : Nat} {h0 : ai_H} (s : mS) : ∀ r, fm_sign s = some r → (Pi (mH M s h0)) r (ai_call G (d + 2) 117 [.ref M] (mH M s h0)) := by
  refine tq_meth (P := (Pi (mH M s h0))) (d := (d + 1)) (Nat.le_of_ble_eq_true rfl) ?_
  show Tj G (d + 1) 117 (Pi (mH M s h0)) (fm_sign s) 0 [some (.ref M)] [] (mH M s h0)
  unfold fm_sign
  refine tq_aload_n dX8_sign_0 rfl ?_
  refine tq_ldc2 (v := .long 6385252) dX8_sign_1 rfl ?_
  refine tm_c1_i dX8_sign_4 rfl rfl rfl (Nat.le_of_ble_eq_true rfl) (wfm_isWord (d := d) _ _) (fun p4 => ?_)
  refine tq_if_eq dX8_sign_7 rfl ?_ ?_
  · refine tq_aload_n dX8_sign_13 rfl ?_
    refine tq_ldc2 (v := .long 28530) dX8_sign_14 rfl ?_
    refine tm_c1_i dX8_sign_17 rfl rfl rfl (Nat.le_of_ble_eq_true rfl) (wfm_isWord (d := d) _ _) (fun p17 => ?_)
    refine tq_if_eq dX8_sign_20 rfl ?_ ?_
    · refine tq_aload_n dX8_sign_26 rfl ?_
      refine tm_gi (k9 := 6) dX8_sign_27 rfl rfl ?_
      refine tq_bipush (v := 60) dX8_sign_30 (by decide) ?_
      refine tq_icmp_eq dX8_sign_32 rfl ?_ ?_
      · refine tq_aload_n dX8_sign_98 rfl ?_
        refine tm_gi (k9 := 6) dX8_sign_99 rfl rfl ?_
        refine tq_goto dX8_sign_102 rfl ?_
        exact tq_ireturn dX8_sign_106 rfl rfl
      · refine tq_aload_n dX8_sign_35 rfl ?_
        refine tm_gi (k9 := 6) dX8_sign_36 rfl rfl ?_
        refine tq_bipush (v := 62) dX8_sign_39 (by decide) ?_
        refine tq_icmp_eq dX8_sign_41 rfl ?_ ?_
        · refine tq_aload_n dX8_sign_98 rfl ?_
          refine tm_gi (k9 := 6) dX8_sign_99 rfl rfl ?_
          refine tq_goto dX8_sign_102 rfl ?_
          exact tq_ireturn dX8_sign_106 rfl rfl
        · refine tq_aload_n dX8_sign_44 rfl ?_
          refine tm_gi (k9 := 6) dX8_sign_45 rfl rfl ?_
          refine tq_bipush (v := 61) dX8_sign_48 (by decide) ?_
          refine tq_icmp_eq dX8_sign_50 rfl ?_ ?_
          · refine tq_aload_n dX8_sign_98 rfl ?_
            refine tm_gi (k9 := 6) dX8_sign_99 rfl rfl ?_
            refine tq_goto dX8_sign_102 rfl ?_
            exact tq_ireturn dX8_sign_106 rfl rfl
          · refine tq_aload_n dX8_sign_53 rfl ?_
            refine tm_gi (k9 := 6) dX8_sign_54 rfl rfl ?_
            refine tq_bipush (v := 43) dX8_sign_57 (by decide) ?_
            refine tq_icmp_eq dX8_sign_59 rfl ?_ ?_
            · refine tq_aload_n dX8_sign_98 rfl ?_
              refine tm_gi (k9 := 6) dX8_sign_99 rfl rfl ?_
              refine tq_goto dX8_sign_102 rfl ?_
              exact tq_ireturn dX8_sign_106 rfl rfl
            · refine tq_aload_n dX8_sign_62 rfl ?_
              refine tm_gi (k9 := 6) dX8_sign_63 rfl rfl ?_
              refine tq_bipush (v := 45) dX8_sign_66 (by decide) ?_
              refine tq_icmp_eq dX8_sign_68 rfl ?_ ?_
              · refine tq_aload_n dX8_sign_98 rfl ?_
                refine tm_gi (k9 := 6) dX8_sign_99 rfl rfl ?_
                refine tq_goto dX8_sign_102 rfl ?_
                exact tq_ireturn dX8_sign_106 rfl rfl
              · refine tq_aload_n dX8_sign_71 rfl ?_
                refine tm_gi (k9 := 6) dX8_sign_72 rfl rfl ?_
                refine tq_bipush (v := 42) dX8_sign_75 (by decide) ?_
                refine tq_icmp_eq dX8_sign_77 rfl ?_ ?_
                · refine tq_aload_n dX8_sign_98 rfl ?_
                  refine tm_gi (k9 := 6) dX8_sign_99 rfl rfl ?_
                  refine tq_goto dX8_sign_102 rfl ?_
                  exact tq_ireturn dX8_sign_106 rfl rfl
                · refine tq_aload_n dX8_sign_80 rfl ?_
                  refine tm_gi (k9 := 6) dX8_sign_81 rfl rfl ?_
                  refine tq_bipush (v := 47) dX8_sign_84 (by decide) ?_
                  refine tq_icmp_eq dX8_sign_86 rfl ?_ ?_
                  · refine tq_aload_n dX8_sign_98 rfl ?_
                    refine tm_gi (k9 := 6) dX8_sign_99 rfl rfl ?_
                    refine tq_goto dX8_sign_102 rfl ?_
                    exact tq_ireturn dX8_sign_106 rfl rfl
                  · refine tq_aload_n dX8_sign_89 rfl ?_
                    refine tm_gi (k9 := 6) dX8_sign_90 rfl rfl ?_
                    refine tq_bipush (v := 37) dX8_sign_93 (by decide) ?_
                    refine tq_icmp_ne dX8_sign_95 rfl ?_ ?_
                    · refine tq_iconst (v := 0) dX8_sign_105 (by decide) ?_
                      exact tq_ireturn dX8_sign_106 rfl rfl
                    · refine tq_aload_n dX8_sign_98 rfl ?_
                      refine tm_gi (k9 := 6) dX8_sign_99 rfl rfl ?_
                      refine tq_goto dX8_sign_102 rfl ?_
                      exact tq_ireturn dX8_sign_106 rfl rfl
    · refine tq_bipush (v := 124) dX8_sign_23 (by decide) ?_
      exact tq_ireturn dX8_sign_25 rfl rfl
  · refine tq_bipush (v := 38) dX8_sign_10 (by decide) ?_
    exact tq_ireturn dX8_sign_12 rfl rfl
abbrev Pfm_hasBracket_b4 (G : ai_G) (d M : Nat) (h0 : ai_H) (s : mS) : (Int32 × Int32) ⊕ Int32 → Option ai_R → Prop := Sum.elim (fun (q : Int32 × Int32) run => ∃ J : Unit, run = ai_run G d 118 4 [some (.ref M), some (.int q.1), some (.int q.2)] [] (mH M s h0)) (fun (q : Int32) run => ∃ J : JV × JV, run = ai_run G d 118 39 [J.1.1, some (.int q), J.2.1] [] (mH M s h0))
theorem Bfm_hasBracket_b4 {G : ai_G} {d M : Nat} {h0 : ai_H} (s : mS) (b0 : Int32) (b1 : Int32) (J : Unit) : Tj G d 118 (Pfm_hasBracket_b4 G d M h0 s) (some (.inl (b0, b1))) 4 [some (.ref M), some (.int b0), some (.int b1)] [] (mH M s h0) := tq_back J rfl rfl
theorem Efm_hasBracket_b4 {G : ai_G} {d M : Nat} {h0 : ai_H} (s : mS) (b0 : Int32) (J : JV × JV) : Tj G d 118 (Pfm_hasBracket_b4 G d M h0 s) (some (.inr b0)) 39 [J.1.1, some (.int b0), J.2.1] [] (mH M s h0) := tq_exit J rfl rfl
theorem wfm_hasBracket_b4 {G : ai_G} {d M : Nat} {h0 : ai_H} (s : mS) (q : Int32 × Int32) (J : Unit) : Tj G d 118 (Pfm_hasBracket_b4 G d M h0 s) (fm_hasBracket_b4 s q) 4 [some (.ref M), some (.int q.1), some (.int q.2)] [] (mH M s h0) := by
  unfold fm_hasBracket_b4
  refine tq_iload_n dX8_hasBracket_4 rfl ?_
  refine tq_aload_n dX8_hasBracket_5 rfl ?_
  refine tm_gi (k9 := 19) dX8_hasBracket_6 rfl rfl ?_
  refine tq_icmp_ge dX8_hasBracket_9 rfl ?_ ?_
  · exact Efm_hasBracket_b4 _ _ (⟨some (.ref M), rfl⟩, ⟨some (.int q.2), rfl⟩)
  · refine tq_iload_n dX8_hasBracket_12 rfl ?_
    refine tq_if_ne dX8_hasBracket_13 rfl ?_ ?_
    · refine tq_iconst (v := 1) dX8_hasBracket_27 (by decide) ?_
      refine tq_goto dX8_hasBracket_28 rfl ?_
      refine tq_istore_n (L' := [_, _, _]) dX8_hasBracket_32 (Nat.le_of_ble_eq_true rfl) rfl ?_
      refine tq_iinc (v := (q.2 + 1)) (L' := [_, _, _]) dX8_hasBracket_33 rfl (Nat.le_of_ble_eq_true rfl) rfl rfl ?_
      refine tq_goto dX8_hasBracket_36 rfl ?_
      exact Bfm_hasBracket_b4 _ _ _ ()
    · refine tq_aload_n dX8_hasBracket_16 rfl ?_
      refine tm_ga (j := 7) dX8_hasBracket_17 rfl rfl ?_
      refine tq_iload_n dX8_hasBracket_20 rfl ?_
      refine tm_ild dX8_hasBracket_21 rfl (fun x21 => ?_)
      refine tq_bipush (v := 20) dX8_hasBracket_22 (by decide) ?_
      refine tq_icmp_ne dX8_hasBracket_24 rfl ?_ ?_
      · refine tq_iconst (v := 0) dX8_hasBracket_31 (by decide) ?_
        refine tq_istore_n (L' := [_, _, _]) dX8_hasBracket_32 (Nat.le_of_ble_eq_true rfl) rfl ?_
        refine tq_iinc (v := (q.2 + 1)) (L' := [_, _, _]) dX8_hasBracket_33 rfl (Nat.le_of_ble_eq_true rfl) rfl rfl ?_
        refine tq_goto dX8_hasBracket_36 rfl ?_
        exact Bfm_hasBracket_b4 _ _ _ ()
      · refine tq_iconst (v := 1) dX8_hasBracket_27 (by decide) ?_
        refine tq_goto dX8_hasBracket_28 rfl ?_
        refine tq_istore_n (L' := [_, _, _]) dX8_hasBracket_32 (Nat.le_of_ble_eq_true rfl) rfl ?_
        refine tq_iinc (v := (q.2 + 1)) (L' := [_, _, _]) dX8_hasBracket_33 rfl (Nat.le_of_ble_eq_true rfl) rfl rfl ?_
        refine tq_goto dX8_hasBracket_36 rfl ?_
        exact Bfm_hasBracket_b4 _ _ _ ()
theorem Sfm_hasBracket_b4 {G : ai_G} {d M : Nat} {h0 : ai_H} {α : Type} {P : α → Option ai_R → Prop} (s : mS) (b0 : Int32) (b1 : Int32) (J : Unit) {r : Int32 → Option α} (kk : ∀ (q : Int32) (J : JV × JV), Tj G d 118 P (r q) 39 [J.1.1, some (.int q), J.2.1] [] (mH M s h0)) : Tj G d 118 P ((lp (fm_hasBracket_b4 s) (b0, b1)).bind r) 4 [some (.ref M), some (.int b0), some (.int b1)] [] (mH M s h0) := tq_lp1 (J := J) (fun q J => wfm_hasBracket_b4 s q J) rfl rfl kk
theorem wfm_hasBracket {G : ai_G} {d M : Nat} {h0 : ai_H} (s : mS) : ∀ r, fm_hasBracket s = some r → (Pi (mH M s h0)) r (ai_call G (d + 1) 118 [.ref M] (mH M s h0)) := by
  refine tq_meth (P := (Pi (mH M s h0))) (d := d) (Nat.le_of_ble_eq_true rfl) ?_
  show Tj G d 118 (Pi (mH M s h0)) (fm_hasBracket s) 0 [some (.ref M), none, none] [] (mH M s h0)
  unfold fm_hasBracket
  refine tq_iconst (v := 0) dX8_hasBracket_0 (by decide) ?_
  refine tq_istore_n (L' := [_, _, _]) dX8_hasBracket_1 (Nat.le_of_ble_eq_true rfl) rfl ?_
  refine tq_iconst (v := 0) dX8_hasBracket_2 (by decide) ?_
  refine tq_istore_n (L' := [_, _, _]) dX8_hasBracket_3 (Nat.le_of_ble_eq_true rfl) rfl ?_
  refine Sfm_hasBracket_b4 _ _ _ () (fun q4 J4 => ?_)
  refine tq_iload_n dX8_hasBracket_39 rfl ?_
  exact tq_iretB dX8_hasBracket_40 rfl rfl rfl
abbrev Pfm_close_b0 (G : ai_G) (d M : Nat) (h0 : ai_H) (v1 : Int32) : mS ⊕ mS → Option ai_R → Prop := Sum.elim (fun (q : mS) run => ∃ J : Unit, run = ai_run G (d + 1) 119 0 [some (.ref M), some (.int v1)] [] (mH M q h0)) (fun (q : mS) run => ∃ J : JV × JV, run = ai_run G (d + 1) 119 101 [J.1.1, J.2.1] [] (mH M q h0))
theorem Bfm_close_b0 {G : ai_G} {d M : Nat} {h0 : ai_H} (v1 : Int32) (b0 : mS) (J : Unit) : Tj G (d + 1) 119 (Pfm_close_b0 G d M h0 v1) (some (.inl b0)) 0 [some (.ref M), some (.int v1)] [] (mH M b0 h0) := tq_back J rfl rfl
theorem Efm_close_b0 {G : ai_G} {d M : Nat} {h0 : ai_H} (v1 : Int32) (b0 : mS) (J : JV × JV) : Tj G (d + 1) 119 (Pfm_close_b0 G d M h0 v1) (some (.inr b0)) 101 [J.1.1, J.2.1] [] (mH M b0 h0) := tq_exit J rfl rfl
theorem wfm_close_b0 {G : ai_G} {d M : Nat} {h0 : ai_H} (v1 : Int32) (q : mS) (J : Unit) : Tj G (d + 1) 119 (Pfm_close_b0 G d M h0 v1) (fm_close_b0 v1 q) 0 [some (.ref M), some (.int v1)] [] (mH M q h0) := by
  unfold fm_close_b0
  refine tq_aload_n dX8_close_0 rfl ?_
  refine tm_gi (k9 := 19) dX8_close_1 rfl rfl ?_
  refine tq_if_le dX8_close_4 rfl ?_ ?_
  · exact Efm_close_b0 _ _ (⟨some (.ref M), rfl⟩, ⟨some (.int v1), rfl⟩)
  · refine tq_aload_n dX8_close_7 rfl ?_
    refine tm_ga (j := 7) dX8_close_8 rfl rfl ?_
    refine tq_aload_n dX8_close_11 rfl ?_
    refine tm_gi (k9 := 19) dX8_close_12 rfl rfl ?_
    refine tq_iconst (v := 1) dX8_close_15 (by decide) ?_
    refine tq_isub dX8_close_16 ?_
    refine tm_ild dX8_close_17 rfl (fun x17 => ?_)
    refine tq_bipush (v := 20) dX8_close_18 (by decide) ?_
    refine tq_icmp_eq dX8_close_20 rfl ?_ ?_
    · exact Efm_close_b0 _ _ (⟨some (.ref M), rfl⟩, ⟨some (.int v1), rfl⟩)
    · refine tq_aload_n dX8_close_23 rfl ?_
      refine tm_ga (j := 7) dX8_close_24 rfl rfl ?_
      refine tq_aload_n dX8_close_27 rfl ?_
      refine tm_gi (k9 := 19) dX8_close_28 rfl rfl ?_
      refine tq_iconst (v := 1) dX8_close_31 (by decide) ?_
      refine tq_isub dX8_close_32 ?_
      refine tm_ild dX8_close_33 rfl (fun x33 => ?_)
      refine ts_c1_i dX8_close_34 rfl rfl rfl (Nat.le_of_ble_eq_true rfl) (wfm_tight (d := d) _) (fun p34 => ?_)
      refine tq_iload_n dX8_close_37 rfl ?_
      refine tq_icmp_lt dX8_close_38 rfl ?_ ?_
      · exact Efm_close_b0 _ _ (⟨some (.ref M), rfl⟩, ⟨some (.int v1), rfl⟩)
      · refine tq_aload_n dX8_close_41 rfl ?_
        refine tq_dup dX8_close_42 rfl ?_
        refine tm_gi (k9 := 19) dX8_close_43 rfl rfl ?_
        refine tq_iconst (v := 1) dX8_close_46 (by decide) ?_
        refine tq_isub dX8_close_47 ?_
        refine tm_pi dX8_close_48 rfl rfl (fun s48 => ?_)
        refine tq_aload_n dX8_close_51 rfl ?_
        refine tm_ga (j := 7) dX8_close_52 rfl rfl ?_
        refine tq_aload_n dX8_close_55 rfl ?_
        refine tm_gi (k9 := 19) dX8_close_56 rfl rfl ?_
        refine tm_ild dX8_close_59 rfl (fun x59 => ?_)
        refine tq_bipush (v := 21) dX8_close_60 (by decide) ?_
        refine tq_icmp_ne dX8_close_62 rfl ?_ ?_
        · refine tq_aload_n dX8_close_84 rfl ?_
          refine tq_iconst (v := 3) dX8_close_85 (by decide) ?_
          refine tq_aload_n dX8_close_86 rfl ?_
          refine tm_ga (j := 7) dX8_close_87 rfl rfl ?_
          refine tq_aload_n dX8_close_90 rfl ?_
          refine tm_gi (k9 := 19) dX8_close_91 rfl rfl ?_
          refine tm_ild dX8_close_94 rfl (fun x94 => ?_)
          refine tm_c2_V dX8_close_95 rfl rfl rfl (Nat.le_of_ble_eq_true rfl) (wfm_add (d := d) _ _ _) (fun p95 => ?_)
          refine tq_goto dX8_close_98 rfl ?_
          exact Bfm_close_b0 _ _ ()
        · refine tq_aload_n dX8_close_65 rfl ?_
          refine tq_iconst (v := 2) dX8_close_66 (by decide) ?_
          refine tq_iconst (v := 0) dX8_close_67 (by decide) ?_
          refine tm_c2_V dX8_close_68 rfl rfl rfl (Nat.le_of_ble_eq_true rfl) (wfm_add (d := d) _ _ _) (fun p68 => ?_)
          refine tq_aload_n dX8_close_71 rfl ?_
          refine tq_dup dX8_close_72 rfl ?_
          refine tm_gi (k9 := 23) dX8_close_73 rfl rfl ?_
          refine tq_iconst (v := 1) dX8_close_76 (by decide) ?_
          refine tq_isub dX8_close_77 ?_
          refine tm_pi dX8_close_78 rfl rfl (fun s78 => ?_)
          refine tq_goto dX8_close_81 rfl ?_
          exact Bfm_close_b0 _ _ ()
theorem Sfm_close_b0 {G : ai_G} {d M : Nat} {h0 : ai_H} {α : Type} {P : α → Option ai_R → Prop} (v1 : Int32) (b0 : mS) (J : Unit) {r : mS → Option α} (kk : ∀ (q : mS) (J : JV × JV), Tj G (d + 1) 119 P (r q) 101 [J.1.1, J.2.1] [] (mH M q h0)) : Tj G (d + 1) 119 P ((lp (fm_close_b0 v1) b0).bind r) 0 [some (.ref M), some (.int v1)] [] (mH M b0 h0) := tq_lp1 (J := J) (fun q J => wfm_close_b0 v1 q J) rfl rfl kk
theorem wfm_close {G : ai_G} {d M : Nat} {h0 : ai_H} (s : mS) (v1 : Int32) : ∀ r, fm_close s v1 = some r → (PmV M h0) r (ai_call G (d + 2) 119 [.ref M, .int v1] (mH M s h0)) := by
  refine tq_meth (P := (PmV M h0)) (d := (d + 1)) (Nat.le_of_ble_eq_true rfl) ?_
  show Tj G (d + 1) 119 (PmV M h0) (fm_close s v1) 0 [some (.ref M), some (.int v1)] [] (mH M s h0)
  unfold fm_close
  refine Sfm_close_b0 _ _ () (fun q0 J0 => ?_)
  exact tq_return dX8_close_101 rfl rfl
abbrev Pfm_hasRelation_b7 (G : ai_G) (d M : Nat) (h0 : ai_H) (s : mS) : Int32 ⊕ Int32 → Option ai_R → Prop := Sum.elim (fun (q : Int32) run => ∃ J : Unit, run = ai_run G (d + 1) 120 7 [some (.ref M), some (.int q)] [] (mH M s h0)) (fun (q : Int32) run => ∃ J : Unit, run = ai_run G (d + 1) 120 41 [some (.ref M), some (.int q)] [] (mH M s h0))
theorem Bfm_hasRelation_b7 {G : ai_G} {d M : Nat} {h0 : ai_H} (s : mS) (b0 : Int32) (J : Unit) : Tj G (d + 1) 120 (Pfm_hasRelation_b7 G d M h0 s) (some (.inl b0)) 7 [some (.ref M), some (.int b0)] [] (mH M s h0) := tq_back J rfl rfl
theorem Efm_hasRelation_b7 {G : ai_G} {d M : Nat} {h0 : ai_H} (s : mS) (b0 : Int32) (J : Unit) : Tj G (d + 1) 120 (Pfm_hasRelation_b7 G d M h0 s) (some (.inr b0)) 41 [some (.ref M), some (.int b0)] [] (mH M s h0) := tq_exit J rfl rfl
theorem wfm_hasRelation_b7 {G : ai_G} {d M : Nat} {h0 : ai_H} (s : mS) (q : Int32) (J : Unit) : Tj G (d + 1) 120 (Pfm_hasRelation_b7 G d M h0 s) (fm_hasRelation_b7 s q) 7 [some (.ref M), some (.int q)] [] (mH M s h0) := by
  unfold fm_hasRelation_b7
  refine tq_iload_n dX8_hasRelation_7 rfl ?_
  refine tq_if_lt dX8_hasRelation_8 rfl ?_ ?_
  · exact Efm_hasRelation_b7 _ _ ()
  · refine tq_aload_n dX8_hasRelation_11 rfl ?_
    refine tm_ga (j := 7) dX8_hasRelation_12 rfl rfl ?_
    refine tq_iload_n dX8_hasRelation_15 rfl ?_
    refine tm_ild dX8_hasRelation_16 rfl (fun x16 => ?_)
    refine tq_bipush (v := 20) dX8_hasRelation_17 (by decide) ?_
    refine tq_icmp_eq dX8_hasRelation_19 rfl ?_ ?_
    · exact Efm_hasRelation_b7 _ _ ()
    · refine tq_aload_n dX8_hasRelation_22 rfl ?_
      refine tm_ga (j := 7) dX8_hasRelation_23 rfl rfl ?_
      refine tq_iload_n dX8_hasRelation_26 rfl ?_
      refine tm_ild dX8_hasRelation_27 rfl (fun x27 => ?_)
      refine ts_c1_i dX8_hasRelation_28 rfl rfl rfl (Nat.le_of_ble_eq_true rfl) (wfm_tight (d := d) _) (fun p28 => ?_)
      refine tq_iconst (v := 4) dX8_hasRelation_31 (by decide) ?_
      refine tq_icmp_le dX8_hasRelation_32 rfl ?_ ?_
      · exact Efm_hasRelation_b7 _ _ ()
      · refine tq_iinc (v := (q + (-1))) (L' := [_, _]) dX8_hasRelation_35 rfl (Nat.le_of_ble_eq_true rfl) rfl rfl ?_
        refine tq_goto dX8_hasRelation_38 rfl ?_
        exact Bfm_hasRelation_b7 _ _ ()
theorem Sfm_hasRelation_b7 {G : ai_G} {d M : Nat} {h0 : ai_H} {α : Type} {P : α → Option ai_R → Prop} (s : mS) (b0 : Int32) (J : Unit) {r : Int32 → Option α} (kk : ∀ (q : Int32) (J : Unit), Tj G (d + 1) 120 P (r q) 41 [some (.ref M), some (.int q)] [] (mH M s h0)) : Tj G (d + 1) 120 P ((lp (fm_hasRelation_b7 s) b0).bind r) 7 [some (.ref M), some (.int b0)] [] (mH M s h0) := tq_lp1 (J := J) (fun q J => wfm_hasRelation_b7 s q J) rfl rfl kk
theorem wfm_hasRelation_j41 {G : ai_G} {d M : Nat} {h0 : ai_H}    (s : mS) (v1 : Int32): Tj G (d + 1) 120 (Pi (mH M s h0)) (fm_hasRelation_j41 s v1) 41 [some (.ref M), some (.int v1)] [] (mH M s h0) := by
  unfold fm_hasRelation_j41
  refine tq_iload_n dX8_hasRelation_41 rfl ?_
  refine tq_if_lt dX8_hasRelation_42 rfl ?_ ?_
  · refine tq_iconst (v := 0) dX8_hasRelation_73 (by decide) ?_
    exact tq_ireturn dX8_hasRelation_74 (by decide) rfl
  · refine tq_aload_n dX8_hasRelation_45 rfl ?_
    refine tm_ga (j := 7) dX8_hasRelation_46 rfl rfl ?_
    refine tq_iload_n dX8_hasRelation_49 rfl ?_
    refine tm_ild dX8_hasRelation_50 rfl (fun x50 => ?_)
    refine tq_bipush (v := 20) dX8_hasRelation_51 (by decide) ?_
    refine tq_icmp_eq dX8_hasRelation_53 rfl ?_ ?_
    · refine tq_iconst (v := 0) dX8_hasRelation_73 (by decide) ?_
      exact tq_ireturn dX8_hasRelation_74 (by decide) rfl
    · refine tq_aload_n dX8_hasRelation_56 rfl ?_
      refine tm_ga (j := 7) dX8_hasRelation_57 rfl rfl ?_
      refine tq_iload_n dX8_hasRelation_60 rfl ?_
      refine tm_ild dX8_hasRelation_61 rfl (fun x61 => ?_)
      refine ts_c1_i dX8_hasRelation_62 rfl rfl rfl (Nat.le_of_ble_eq_true rfl) (wfm_tight (d := d) _) (fun p62 => ?_)
      refine tq_iconst (v := 4) dX8_hasRelation_65 (by decide) ?_
      refine tq_icmp_ne dX8_hasRelation_66 rfl ?_ ?_
      · refine tq_iconst (v := 0) dX8_hasRelation_73 (by decide) ?_
        exact tq_ireturn dX8_hasRelation_74 (by decide) rfl
      · refine tq_iconst (v := 1) dX8_hasRelation_69 (by decide) ?_
        refine tq_goto dX8_hasRelation_70 rfl ?_
        exact tq_ireturn dX8_hasRelation_74 (by decide) rfl
theorem wfm_hasRelation {G : ai_G} {d M : Nat} {h0 : ai_H} (s : mS) : ∀ r, fm_hasRelation s = some r → (Pi (mH M s h0)) r (ai_call G (d + 2) 120 [.ref M] (mH M s h0)) := by
  refine tq_meth (P := (Pi (mH M s h0))) (d := (d + 1)) (Nat.le_of_ble_eq_true rfl) ?_
  show Tj G (d + 1) 120 (Pi (mH M s h0)) (fm_hasRelation s) 0 [some (.ref M), none] [] (mH M s h0)
  unfold fm_hasRelation
  refine tq_aload_n dX8_hasRelation_0 rfl ?_
  refine tm_gi (k9 := 19) dX8_hasRelation_1 rfl rfl ?_
  refine tq_iconst (v := 1) dX8_hasRelation_4 (by decide) ?_
  refine tq_isub dX8_hasRelation_5 ?_
  refine tq_istore_n (L' := [_, _]) dX8_hasRelation_6 (Nat.le_of_ble_eq_true rfl) rfl ?_
  refine Sfm_hasRelation_b7 _ _ () (fun q7 J7 => ?_)
  exact wfm_hasRelation_j41 _ _
abbrev Pfm_formula_b35 (G : ai_G) (d M : Nat) (h0 : ai_H)  : (Int32 × mS) ⊕ mS → Option ai_R → Prop := Sum.elim (fun (q : Int32 × mS) run => ∃ J : JV, run = ai_run G (d + 4) 121 35 [some (.ref M), some (.int q.1), J.1] [] (mH M q.2 h0)) (fun (q : mS) run => ∃ J : JV × JV, run = ai_run G (d + 4) 121 162 [some (.ref M), J.1.1, J.2.1] [] (mH M q h0))
theorem Bfm_formula_b35 {G : ai_G} {d M : Nat} {h0 : ai_H}  (b0 : Int32) (b1 : mS) (J : JV) : Tj G (d + 4) 121 (Pfm_formula_b35 G d M h0) (some (.inl (b0, b1))) 35 [some (.ref M), some (.int b0), J.1] [] (mH M b1 h0) := tq_back J rfl rfl
theorem Efm_formula_b35 {G : ai_G} {d M : Nat} {h0 : ai_H}  (b0 : mS) (J : JV × JV) : Tj G (d + 4) 121 (Pfm_formula_b35 G d M h0) (some (.inr b0)) 162 [some (.ref M), J.1.1, J.2.1] [] (mH M b0 h0) := tq_exit J rfl rfl
theorem wfm_formula_j118 {G : ai_G} {d M : Nat} {h0 : ai_H}    (s : mS) (v1 : Int32) (v2 : Int32): Tj G (d + 4) 121 (Pfm_formula_b35 G d M h0) (fm_formula_j118 s v1 v2) 118 [some (.ref M), some (.int v1), some (.int v2)] [] (mH M s h0) := by
  unfold fm_formula_j118
  refine tq_aload_n dX8_formula_118 rfl ?_
  refine tq_iload_n dX8_formula_119 rfl ?_
  refine ts_c1_i dX8_formula_120 rfl rfl rfl (Nat.le_of_ble_eq_true rfl) (wfm_tight (d := d + 3) _) (fun p120 => ?_)
  refine tm_c1_V dX8_formula_123 rfl rfl rfl (Nat.le_of_ble_eq_true rfl) (wfm_close (d := d + 2) _ _) (fun p123 => ?_)
  refine tq_aload_n dX8_formula_126 rfl ?_
  refine tm_ga (j := 7) dX8_formula_127 rfl rfl ?_
  refine tq_aload_n dX8_formula_130 rfl ?_
  refine tm_gi (k9 := 19) dX8_formula_131 rfl rfl ?_
  refine tq_iload_n dX8_formula_134 rfl ?_
  refine tm_ist dX8_formula_135 rfl (fun s135 => ?_)
  refine tq_aload_n dX8_formula_136 rfl ?_
  refine tq_dup dX8_formula_137 rfl ?_
  refine tm_gi (k9 := 19) dX8_formula_138 rfl rfl ?_
  refine tq_iconst (v := 1) dX8_formula_141 (by decide) ?_
  refine tq_iadd dX8_formula_142 ?_
  refine tm_pi dX8_formula_143 rfl rfl (fun s143 => ?_)
  refine tq_aload_n dX8_formula_146 rfl ?_
  refine tm_c0_V dX8_formula_147 rfl rfl rfl (Nat.le_of_ble_eq_true rfl) (wfm_token (d := d + 2) _) (fun p147 => ?_)
  refine tq_aload_n dX8_formula_150 rfl ?_
  refine tm_c0_V dX8_formula_151 rfl rfl rfl (Nat.le_of_ble_eq_true rfl) (wfm_unit (d := d) _) (fun p151 => ?_)
  refine tq_goto dX8_formula_154 rfl ?_
  refine tq_goto dX8_formula_159 rfl ?_
  exact Bfm_formula_b35 _ _ ⟨some (.int v2), rfl⟩
theorem wfm_formula_j99 {G : ai_G} {d M : Nat} {h0 : ai_H}    (s : mS) (v1 : Int32) (v2 : Int32): Tj G (d + 4) 121 (Pfm_formula_b35 G d M h0) (fm_formula_j99 s v1 v2) 99 [some (.ref M), some (.int v1), some (.int v2)] [] (mH M s h0) := by
  unfold fm_formula_j99
  refine tq_iload_n dX8_formula_99 rfl ?_
  refine tq_if_eq dX8_formula_100 rfl ?_ ?_
  · refine tq_iconst (v := 0) dX8_formula_157 (by decide) ?_
    refine tq_istore_n (L' := [_, _, _]) dX8_formula_158 (Nat.le_of_ble_eq_true rfl) rfl ?_
    refine tq_goto dX8_formula_159 rfl ?_
    exact Bfm_formula_b35 _ _ ⟨some (.int v2), rfl⟩
  · refine tq_iload_n dX8_formula_103 rfl ?_
    refine ts_c1_i dX8_formula_104 rfl rfl rfl (Nat.le_of_ble_eq_true rfl) (wfm_tight (d := d + 3) _) (fun p104 => ?_)
    refine tq_iconst (v := 4) dX8_formula_107 (by decide) ?_
    refine tq_icmp_ne dX8_formula_108 rfl ?_ ?_
    · exact wfm_formula_j118 _ _ _
    · refine tq_aload_n dX8_formula_111 rfl ?_
      refine tm_c0_i dX8_formula_112 rfl rfl rfl (Nat.le_of_ble_eq_true rfl) (wfm_hasRelation (d := d + 2) _) (fun p112 => ?_)
      refine tq_if_ne dX8_formula_115 rfl ?_ ?_
      · refine tq_iconst (v := 0) dX8_formula_157 (by decide) ?_
        refine tq_istore_n (L' := [_, _, _]) dX8_formula_158 (Nat.le_of_ble_eq_true rfl) rfl ?_
        refine tq_goto dX8_formula_159 rfl ?_
        exact Bfm_formula_b35 _ _ ⟨some (.int v2), rfl⟩
      · exact wfm_formula_j118 _ _ _
theorem wfm_formula_b35 {G : ai_G} {d M : Nat} {h0 : ai_H}  (q : Int32 × mS) (J : JV) : Tj G (d + 4) 121 (Pfm_formula_b35 G d M h0) (fm_formula_b35 q) 35 [some (.ref M), some (.int q.1), J.1] [] (mH M q.2 h0) := by
  unfold fm_formula_b35
  refine tq_iload_n dX8_formula_35 rfl ?_
  refine tq_if_eq dX8_formula_36 rfl ?_ ?_
  · exact Efm_formula_b35 _ (⟨some (.int q.1), rfl⟩, J)
  · refine tq_aload_n dX8_formula_39 rfl ?_
    refine tm_gi (k9 := 2) dX8_formula_40 rfl rfl ?_
    refine tq_if_ne dX8_formula_43 rfl ?_ ?_
    · exact Efm_formula_b35 _ (⟨some (.int q.1), rfl⟩, J)
    · refine tq_aload_n dX8_formula_46 rfl ?_
      refine tm_c0_i dX8_formula_47 rfl rfl rfl (Nat.le_of_ble_eq_true rfl) (wfm_sign (d := d + 2) _) (fun p47 => ?_)
      refine tq_istore_n (L' := [_, _, _]) dX8_formula_50 (Nat.le_of_ble_eq_true rfl) rfl ?_
      refine tq_aload_n dX8_formula_51 rfl ?_
      refine tm_gi (k9 := 6) dX8_formula_52 rfl rfl ?_
      refine tq_bipush (v := 41) dX8_formula_55 (by decide) ?_
      refine tq_icmp_ne dX8_formula_57 rfl ?_ ?_
      · exact wfm_formula_j99 _ _ _
      · refine tq_aload_n dX8_formula_60 rfl ?_
        refine tm_c0_i dX8_formula_61 rfl rfl rfl (Nat.le_of_ble_eq_true rfl) (wfm_hasBracket (d := d + 3) _) (fun p61 => ?_)
        refine tq_if_eq dX8_formula_64 rfl ?_ ?_
        · exact wfm_formula_j99 _ _ _
        · refine tq_aload_n dX8_formula_67 rfl ?_
          refine tq_iconst (v := 0) dX8_formula_68 (by decide) ?_
          refine tm_c1_V dX8_formula_69 rfl rfl rfl (Nat.le_of_ble_eq_true rfl) (wfm_close (d := d + 2) _ _) (fun p69 => ?_)
          refine tq_aload_n dX8_formula_72 rfl ?_
          refine tq_dup dX8_formula_73 rfl ?_
          refine tm_gi (k9 := 19) dX8_formula_74 rfl rfl ?_
          refine tq_iconst (v := 1) dX8_formula_77 (by decide) ?_
          refine tq_isub dX8_formula_78 ?_
          refine tm_pi dX8_formula_79 rfl rfl (fun s79 => ?_)
          refine tq_aload_n dX8_formula_82 rfl ?_
          refine tq_dup dX8_formula_83 rfl ?_
          refine tm_gi (k9 := 23) dX8_formula_84 rfl rfl ?_
          refine tq_iconst (v := 1) dX8_formula_87 (by decide) ?_
          refine tq_isub dX8_formula_88 ?_
          refine tm_pi dX8_formula_89 rfl rfl (fun s89 => ?_)
          refine tq_aload_n dX8_formula_92 rfl ?_
          refine tm_c0_V dX8_formula_93 rfl rfl rfl (Nat.le_of_ble_eq_true rfl) (wfm_token (d := d + 2) _) (fun p93 => ?_)
          refine tq_goto dX8_formula_96 rfl ?_
          refine tq_goto dX8_formula_159 rfl ?_
          exact Bfm_formula_b35 _ _ ⟨some (.int p47), rfl⟩
theorem Sfm_formula_b35 {G : ai_G} {d M : Nat} {h0 : ai_H} {α : Type} {P : α → Option ai_R → Prop}  (b0 : Int32) (b1 : mS) (J : JV) {r : mS → Option α} (kk : ∀ (q : mS) (J : JV × JV), Tj G (d + 4) 121 P (r q) 162 [some (.ref M), J.1.1, J.2.1] [] (mH M q h0)) : Tj G (d + 4) 121 P ((lp fm_formula_b35 (b0, b1)).bind r) 35 [some (.ref M), some (.int b0), J.1] [] (mH M b1 h0) := tq_lp1 (J := J) (fun q J => wfm_formula_b35  q J) rfl rfl kk
theorem wfm_formula_j181 {G : ai_G} {d M : Nat} {h0 : ai_H} (j1 : JV) (j2 : JV)   (s : mS): Tj G (d + 4) 121 (PmV M h0) (fm_formula_j181 s) 181 [some (.ref M), j1.1, j2.1] [] (mH M s h0) := by
  unfold fm_formula_j181
  refine tq_aload_n dX8_formula_181 rfl ?_
  refine tm_gi (k9 := 2) dX8_formula_182 rfl rfl ?_
  refine tq_if_ne dX8_formula_185 rfl ?_ ?_
  · exact tq_return dX8_formula_193 rfl rfl
  · refine tq_aload_n dX8_formula_188 rfl ?_
    refine tq_iconst (v := 0) dX8_formula_189 (by decide) ?_
    refine tm_c1_V dX8_formula_190 rfl rfl rfl (Nat.le_of_ble_eq_true rfl) (wfm_close (d := d + 2) _ _) (fun p190 => ?_)
    exact tq_return dX8_formula_193 rfl rfl
theorem wfm_formula_j162 {G : ai_G} {d M : Nat} {h0 : ai_H} (j1 : JV) (j2 : JV)   (s : mS): Tj G (d + 4) 121 (PmV M h0) (fm_formula_j162 s) 162 [some (.ref M), j1.1, j2.1] [] (mH M s h0) := by
  unfold fm_formula_j162
  refine tq_aload_n dX8_formula_162 rfl ?_
  refine tm_gi (k9 := 2) dX8_formula_163 rfl rfl ?_
  refine tq_if_ne dX8_formula_166 rfl ?_ ?_
  · exact wfm_formula_j181 j1 j2 _
  · refine tq_aload_n dX8_formula_169 rfl ?_
    refine tm_c0_i dX8_formula_170 rfl rfl rfl (Nat.le_of_ble_eq_true rfl) (wfm_hasBracket (d := d + 3) _) (fun p170 => ?_)
    refine tq_if_eq dX8_formula_173 rfl ?_ ?_
    · exact wfm_formula_j181 j1 j2 _
    · refine tq_aload_n dX8_formula_176 rfl ?_
      refine tq_iconst (v := 2) dX8_formula_177 (by decide) ?_
      refine tm_c1_V dX8_formula_178 rfl rfl rfl (Nat.le_of_ble_eq_true rfl) (wfm_wrong (d := d + 3) _ _) (fun p178 => ?_)
      exact wfm_formula_j181 j1 j2 _
theorem wfm_formula {G : ai_G} {d M : Nat} {h0 : ai_H} (s : mS) : ∀ r, fm_formula s = some r → (PmV M h0) r (ai_call G (d + 5) 121 [.ref M] (mH M s h0)) := by
  refine tq_meth (P := (PmV M h0)) (d := (d + 4)) (Nat.le_of_ble_eq_true rfl) ?_
  show Tj G (d + 4) 121 (PmV M h0) (fm_formula s) 0 [some (.ref M), none, none] [] (mH M s h0)
  unfold fm_formula
  refine tq_aload_n dX8_formula_0 rfl ?_
  refine tm_c0_V dX8_formula_1 rfl rfl rfl (Nat.le_of_ble_eq_true rfl) (wfm_token (d := d + 2) _) (fun p1 => ?_)
  refine tq_aload_n dX8_formula_4 rfl ?_
  refine tq_iconst (v := 1) dX8_formula_5 (by decide) ?_
  refine tm_pz dX8_formula_6 rfl rfl (by decide) (fun s6 => ?_)
  refine tq_aload_n dX8_formula_9 rfl ?_
  refine tq_iconst (v := 0) dX8_formula_10 (by decide) ?_
  refine tm_pi dX8_formula_11 rfl rfl (fun s11 => ?_)
  refine tq_aload_n dX8_formula_14 rfl ?_
  refine tq_iconst (v := 0) dX8_formula_15 (by decide) ?_
  refine tm_pi dX8_formula_16 rfl rfl (fun s16 => ?_)
  refine tq_aload_n dX8_formula_19 rfl ?_
  refine tq_iconst (v := 0) dX8_formula_20 (by decide) ?_
  refine tm_pi dX8_formula_21 rfl rfl (fun s21 => ?_)
  refine tq_aload_n dX8_formula_24 rfl ?_
  refine tq_iconst (v := 0) dX8_formula_25 (by decide) ?_
  refine tm_pi dX8_formula_26 rfl rfl (fun s26 => ?_)
  refine tq_aload_n dX8_formula_29 rfl ?_
  refine tm_c0_V dX8_formula_30 rfl rfl rfl (Nat.le_of_ble_eq_true rfl) (wfm_unit (d := d) _) (fun p30 => ?_)
  refine tq_iconst (v := 1) dX8_formula_33 (by decide) ?_
  refine tq_istore_n (L' := [_, _, _]) dX8_formula_34 (Nat.le_of_ble_eq_true rfl) rfl ?_
  refine Sfm_formula_b35 _ _ ⟨none, rfl⟩ (fun q35 J35 => ?_)
  exact wfm_formula_j162 J35.1 J35.2 _

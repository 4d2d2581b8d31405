/-! WALKS of the model: the interpreter does what the functions say (printed by tools/decm.py) -/
set_option maxRecDepth 100000
abbrev Pfm_four_b3 (G : ai_G) (d M : Nat) (h0 : ai_H) (v1 : Int32) : (Int32 × mS) ⊕ mS → Option ai_R → Prop := Sum.elim (fun (q : Int32 × mS) run => ∃ J : Unit, run = ai_run G d 22 3 [some (.ref M), some (.int v1), some (.int q.1)] [] (mH M q.2 h0)) (fun (q : mS) run => ∃ J : JV × JV × JV, run = ai_run G d 22 39 [J.1.1, J.2.1.1, J.2.2.1] [] (mH M q h0))
theorem Bfm_four_b3 {G : ai_G} {d M : Nat} {h0 : ai_H} (v1 : Int32) (b0 : Int32) (b1 : mS) (J : Unit) : Tj G d 22 (Pfm_four_b3 G d M h0 v1) (some (.inl (b0, b1))) 3 [some (.ref M), some (.int v1), some (.int b0)] [] (mH M b1 h0) := tq_back J rfl rfl
theorem Efm_four_b3 {G : ai_G} {d M : Nat} {h0 : ai_H} (v1 : Int32) (b0 : mS) (J : JV × JV × JV) : Tj G d 22 (Pfm_four_b3 G d M h0 v1) (some (.inr b0)) 39 [J.1.1, J.2.1.1, J.2.2.1] [] (mH M b0 h0) := tq_exit J rfl rfl
theorem wfm_four_b3 {G : ai_G} {d M : Nat} {h0 : ai_H} (v1 : Int32) (q : Int32 × mS) (J : Unit) : Tj G d 22 (Pfm_four_b3 G d M h0 v1) (fm_four_b3 v1 q) 3 [some (.ref M), some (.int v1), some (.int q.1)] [] (mH M q.2 h0) := by
  unfold fm_four_b3
  refine tq_iload_n dX8_four_3 rfl ?_
  refine tq_if_lt dX8_four_4 rfl ?_ ?_
  · exact Efm_four_b3 _ _ (⟨some (.ref M), rfl⟩, ⟨some (.int v1), rfl⟩, ⟨some (.int q.1), rfl⟩)
  · refine tq_aload_n dX8_four_7 rfl ?_
    refine tm_ga (j := 1) dX8_four_8 rfl rfl ?_
    refine tq_aload_n dX8_four_11 rfl ?_
    refine tm_gi (k9 := 1) dX8_four_12 rfl rfl ?_
    refine tq_iload_n dX8_four_15 rfl ?_
    refine tq_iload_n dX8_four_16 rfl ?_
    refine tq_ishr dX8_four_17 ?_
    refine tq_sipush (v := 255) dX8_four_18 (by decide) ?_
    refine tq_iand dX8_four_21 ?_
    refine tm_ist dX8_four_22 rfl (fun s22 => ?_)
    refine tq_aload_n dX8_four_23 rfl ?_
    refine tq_dup dX8_four_24 rfl ?_
    refine tm_gi (k9 := 1) dX8_four_25 rfl rfl ?_
    refine tq_iconst (v := 1) dX8_four_28 (by decide) ?_
    refine tq_iadd dX8_four_29 ?_
    refine tm_pi dX8_four_30 rfl rfl (fun s30 => ?_)
    refine tq_iinc (v := (q.1 + (-8))) (L' := [_, _, _]) dX8_four_33 rfl (Nat.le_of_ble_eq_true rfl) rfl rfl ?_
    refine tq_goto dX8_four_36 rfl ?_
    exact Bfm_four_b3 _ _ _ ()
theorem Sfm_four_b3 {G : ai_G} {d M : Nat} {h0 : ai_H} {α : Type} {P : α → Option ai_R → Prop} (v1 : Int32) (b0 : Int32) (b1 : mS) (J : Unit) {r : mS → Option α} (kk : ∀ (q : mS) (J : JV × JV × JV), Tj G d 22 P (r q) 39 [J.1.1, J.2.1.1, J.2.2.1] [] (mH M q h0)) : Tj G d 22 P ((lp (fm_four_b3 v1) (b0, b1)).bind r) 3 [some (.ref M), some (.int v1), some (.int b0)] [] (mH M b1 h0) := tq_lp1 (J := J) (fun q J => wfm_four_b3 v1 q J) rfl rfl kk
theorem wfm_four {G : ai_G} {d M : Nat} {h0 : ai_H} (s : mS) (v1 : Int32) : ∀ r, fm_four s v1 = some r → (PmV M h0) r (ai_call G (d + 1) 22 [.ref M, .int v1] (mH M s h0)) := by
  refine tq_meth (P := (PmV M h0)) (d := d) (Nat.le_of_ble_eq_true rfl) ?_
  show Tj G d 22 (PmV M h0) (fm_four s v1) 0 [some (.ref M), some (.int v1), none] [] (mH M s h0)
  unfold fm_four
  refine tq_bipush (v := 24) dX8_four_0 (by decide) ?_
  refine tq_istore_n (L' := [_, _, _]) dX8_four_2 (Nat.le_of_ble_eq_true rfl) rfl ?_
  refine Sfm_four_b3 _ _ _ () (fun q3 J3 => ?_)
  exact tq_return dX8_four_39 rfl rfl
theorem wfm_feed {G : ai_G} {d M : Nat} {h0 : ai_H} (s : mS) (v1 : Int32) (v2 : Int32) (v3 : Int32) (v4 : Int32) (v5 : Int32) : ∀ r, fm_feed s v1 v2 v3 v4 v5 = some r → (PmI M h0) r (ai_call G (d + 2) 23 [.ref M, .int v1, .int v2, .int v3, .int v4, .int v5] (mH M s h0)) := by
  refine tq_meth (P := (PmI M h0)) (d := (d + 1)) (Nat.le_of_ble_eq_true rfl) ?_
  show Tj G (d + 1) 23 (PmI M h0) (fm_feed s v1 v2 v3 v4 v5) 0 [some (.ref M), some (.int v1), some (.int v2), some (.int v3), some (.int v4), some (.int v5)] [] (mH M s h0)
  unfold fm_feed
  refine tq_aload_n dX8_feed_0 rfl ?_
  refine tm_gi (k9 := 1) dX8_feed_1 rfl rfl ?_
  refine tq_bipush (v := 20) dX8_feed_4 (by decide) ?_
  refine tq_iadd dX8_feed_6 ?_
  refine tq_sipush (v := 1600) dX8_feed_7 (by decide) ?_
  refine tq_icmp_le dX8_feed_10 rfl ?_ ?_
  · refine tq_aload_n dX8_feed_15 rfl ?_
    refine tq_iload_n dX8_feed_16 rfl ?_
    refine tm_c1_V dX8_feed_17 rfl rfl rfl (Nat.le_of_ble_eq_true rfl) (wfm_four (d := d) _ _) (fun p17 => ?_)
    refine tq_aload_n dX8_feed_20 rfl ?_
    refine tq_iload_n dX8_feed_21 rfl ?_
    refine tm_c1_V dX8_feed_22 rfl rfl rfl (Nat.le_of_ble_eq_true rfl) (wfm_four (d := d) _ _) (fun p22 => ?_)
    refine tq_aload_n dX8_feed_25 rfl ?_
    refine tq_iload_n dX8_feed_26 rfl ?_
    refine tm_c1_V dX8_feed_27 rfl rfl rfl (Nat.le_of_ble_eq_true rfl) (wfm_four (d := d) _ _) (fun p27 => ?_)
    refine tq_aload_n dX8_feed_30 rfl ?_
    refine tq_iload dX8_feed_31 rfl ?_
    refine tm_c1_V dX8_feed_33 rfl rfl rfl (Nat.le_of_ble_eq_true rfl) (wfm_four (d := d) _ _) (fun p33 => ?_)
    refine tq_aload_n dX8_feed_36 rfl ?_
    refine tq_iload dX8_feed_37 rfl ?_
    refine tm_c1_V dX8_feed_39 rfl rfl rfl (Nat.le_of_ble_eq_true rfl) (wfm_four (d := d) _ _) (fun p39 => ?_)
    refine tq_aload_n dX8_feed_42 rfl ?_
    refine tm_gi (k9 := 1) dX8_feed_43 rfl rfl ?_
    exact tq_ireturn dX8_feed_46 rfl rfl
  · refine tq_iconst (v := (-1)) dX8_feed_13 (by decide) ?_
    exact tq_ireturn dX8_feed_14 rfl rfl
theorem wfm_end {G : ai_G} {d M : Nat} {h0 : ai_H} (s : mS) (v1 : Int32) : ∀ r, fm_end s v1 = some r → (PmI M h0) r (ai_call G (d + 1) 25 [.ref M, .int v1] (mH M s h0)) := by
  refine tq_meth (P := (PmI M h0)) (d := d) (Nat.le_of_ble_eq_true rfl) ?_
  show Tj G d 25 (PmI M h0) (fm_end s v1) 0 [some (.ref M), some (.int v1)] [] (mH M s h0)
  unfold fm_end
  refine tq_iload_n dX8_end_0 rfl ?_
  refine tq_if_lt dX8_end_1 rfl ?_ ?_
  · refine tq_iconst (v := (-1)) dX8_end_12 (by decide) ?_
    exact tq_ireturn dX8_end_13 rfl rfl
  · refine tq_iload_n dX8_end_4 rfl ?_
    refine tq_aload_n dX8_end_5 rfl ?_
    refine tm_gi (k9 := 1) dX8_end_6 rfl rfl ?_
    refine tq_icmp_le dX8_end_9 rfl ?_ ?_
    · refine tq_aload_n dX8_end_14 rfl ?_
      refine tq_iload_n dX8_end_15 rfl ?_
      refine tm_pi dX8_end_16 rfl rfl (fun s16 => ?_)
      refine tq_iload_n dX8_end_19 rfl ?_
      exact tq_ireturn dX8_end_20 rfl rfl
    · refine tq_iconst (v := (-1)) dX8_end_12 (by decide) ?_
      exact tq_ireturn dX8_end_13 rfl rfl
theorem wfm_here {G : ai_G} {d M : Nat} {h0 : ai_H} (s : mS) (v1 : Int32) : ∀ r, fm_here s v1 = some r → (Pi (mH M s h0)) r (ai_call G (d + 1) 90 [.ref M, .int v1] (mH M s h0)) := by
  refine tq_meth (P := (Pi (mH M s h0))) (d := d) (Nat.le_of_ble_eq_true rfl) ?_
  show Tj G d 90 (Pi (mH M s h0)) (fm_here s v1) 0 [some (.ref M), some (.int v1)] [] (mH M s h0)
  unfold fm_here
  refine tq_aload_n dX8_here_0 rfl ?_
  refine tm_gi (k9 := 4) dX8_here_1 rfl rfl ?_
  refine tq_iload_n dX8_here_4 rfl ?_
  refine tq_iadd dX8_here_5 ?_
  refine tq_aload_n dX8_here_6 rfl ?_
  refine tm_gi (k9 := 5) dX8_here_7 rfl rfl ?_
  refine tq_icmp_ge dX8_here_10 rfl ?_ ?_
  · refine tq_iconst (v := (-1)) dX8_here_27 (by decide) ?_
    exact tq_ireturn dX8_here_28 rfl rfl
  · refine tq_aload_n dX8_here_13 rfl ?_
    refine tm_ga (j := 1) dX8_here_14 rfl rfl ?_
    refine tq_aload_n dX8_here_17 rfl ?_
    refine tm_gi (k9 := 4) dX8_here_18 rfl rfl ?_
    refine tq_iload_n dX8_here_21 rfl ?_
    refine tq_iadd dX8_here_22 ?_
    refine tm_ild dX8_here_23 rfl (fun x23 => ?_)
    refine tq_goto dX8_here_24 rfl ?_
    exact tq_ireturn dX8_here_28 rfl rfl
theorem wfm_isLetter {G : ai_G} {d : Nat} {h : ai_H} (v0 : Int32) : ∀ r, fm_isLetter v0 = some r → (Pi h) r (ai_call G (d + 1) 91 [.int v0] h) := by
  refine tq_meth (P := (Pi h)) (d := d) (Nat.le_of_ble_eq_true rfl) ?_
  show Tj G d 91 (Pi h) (fm_isLetter v0) 0 [some (.int v0)] [] h
  unfold fm_isLetter
  refine tq_iload_n dX8_isLetter_0 rfl ?_
  refine tq_bipush (v := 97) dX8_isLetter_1 (by decide) ?_
  refine tq_icmp_lt dX8_isLetter_3 rfl ?_ ?_
  · refine tq_iconst (v := 0) dX8_isLetter_16 (by decide) ?_
    exact tq_ireturn dX8_isLetter_17 (by decide) rfl
  · refine tq_iload_n dX8_isLetter_6 rfl ?_
    refine tq_bipush (v := 122) dX8_isLetter_7 (by decide) ?_
    refine tq_icmp_gt dX8_isLetter_9 rfl ?_ ?_
    · refine tq_iconst (v := 0) dX8_isLetter_16 (by decide) ?_
      exact tq_ireturn dX8_isLetter_17 (by decide) rfl
    · refine tq_iconst (v := 1) dX8_isLetter_12 (by decide) ?_
      refine tq_goto dX8_isLetter_13 rfl ?_
      exact tq_ireturn dX8_isLetter_17 (by decide) rfl
theorem wfm_isDigit {G : ai_G} {d : Nat} {h : ai_H} (v0 : Int32) : ∀ r, fm_isDigit v0 = some r → (Pi h) r (ai_call G (d + 1) 92 [.int v0] h) := by
  refine tq_meth (P := (Pi h)) (d := d) (Nat.le_of_ble_eq_true rfl) ?_
  show Tj G d 92 (Pi h) (fm_isDigit v0) 0 [some (.int v0)] [] h
  unfold fm_isDigit
  refine tq_iload_n dX8_isDigit_0 rfl ?_
  refine tq_bipush (v := 48) dX8_isDigit_1 (by decide) ?_
  refine tq_icmp_lt dX8_isDigit_3 rfl ?_ ?_
  · refine tq_iconst (v := 0) dX8_isDigit_16 (by decide) ?_
    exact tq_ireturn dX8_isDigit_17 (by decide) rfl
  · refine tq_iload_n dX8_isDigit_6 rfl ?_
    refine tq_bipush (v := 57) dX8_isDigit_7 (by decide) ?_
    refine tq_icmp_gt dX8_isDigit_9 rfl ?_ ?_
    · refine tq_iconst (v := 0) dX8_isDigit_16 (by decide) ?_
      exact tq_ireturn dX8_isDigit_17 (by decide) rfl
    · refine tq_iconst (v := 1) dX8_isDigit_12 (by decide) ?_
      refine tq_goto dX8_isDigit_13 rfl ?_
      exact tq_ireturn dX8_isDigit_17 (by decide) rfl
theorem wfm_isSign {G : ai_G} {d : Nat} {h : ai_H} (v0 : Int32) : ∀ r, fm_isSign v0 = some r → (Pi h) r (ai_call G (d + 1) 93 [.int v0] h) := by
  refine tq_meth (P := (Pi h)) (d := d) (Nat.le_of_ble_eq_true rfl) ?_
  show Tj G d 93 (Pi h) (fm_isSign v0) 0 [some (.int v0)] [] h
  unfold fm_isSign
  refine tq_iload_n dX8_isSign_0 rfl ?_
  refine tq_bipush (v := 59) dX8_isSign_1 (by decide) ?_
  refine tq_icmp_eq dX8_isSign_3 rfl ?_ ?_
  · refine tq_iconst (v := 1) dX8_isSign_66 (by decide) ?_
    refine tq_goto dX8_isSign_67 rfl ?_
    exact tq_ireturn dX8_isSign_71 (by decide) rfl
  · refine tq_iload_n dX8_isSign_6 rfl ?_
    refine tq_bipush (v := 40) dX8_isSign_7 (by decide) ?_
    refine tq_icmp_eq dX8_isSign_9 rfl ?_ ?_
    · refine tq_iconst (v := 1) dX8_isSign_66 (by decide) ?_
      refine tq_goto dX8_isSign_67 rfl ?_
      exact tq_ireturn dX8_isSign_71 (by decide) rfl
    · refine tq_iload_n dX8_isSign_12 rfl ?_
      refine tq_bipush (v := 41) dX8_isSign_13 (by decide) ?_
      refine tq_icmp_eq dX8_isSign_15 rfl ?_ ?_
      · refine tq_iconst (v := 1) dX8_isSign_66 (by decide) ?_
        refine tq_goto dX8_isSign_67 rfl ?_
        exact tq_ireturn dX8_isSign_71 (by decide) rfl
      · refine tq_iload_n dX8_isSign_18 rfl ?_
        refine tq_bipush (v := 60) dX8_isSign_19 (by decide) ?_
        refine tq_icmp_eq dX8_isSign_21 rfl ?_ ?_
        · refine tq_iconst (v := 1) dX8_isSign_66 (by decide) ?_
          refine tq_goto dX8_isSign_67 rfl ?_
          exact tq_ireturn dX8_isSign_71 (by decide) rfl
        · refine tq_iload_n dX8_isSign_24 rfl ?_
          refine tq_bipush (v := 62) dX8_isSign_25 (by decide) ?_
          refine tq_icmp_eq dX8_isSign_27 rfl ?_ ?_
          · refine tq_iconst (v := 1) dX8_isSign_66 (by decide) ?_
            refine tq_goto dX8_isSign_67 rfl ?_
            exact tq_ireturn dX8_isSign_71 (by decide) rfl
          · refine tq_iload_n dX8_isSign_30 rfl ?_
            refine tq_bipush (v := 61) dX8_isSign_31 (by decide) ?_
            refine tq_icmp_eq dX8_isSign_33 rfl ?_ ?_
            · refine tq_iconst (v := 1) dX8_isSign_66 (by decide) ?_
              refine tq_goto dX8_isSign_67 rfl ?_
              exact tq_ireturn dX8_isSign_71 (by decide) rfl
            · refine tq_iload_n dX8_isSign_36 rfl ?_
              refine tq_bipush (v := 43) dX8_isSign_37 (by decide) ?_
              refine tq_icmp_eq dX8_isSign_39 rfl ?_ ?_
              · refine tq_iconst (v := 1) dX8_isSign_66 (by decide) ?_
                refine tq_goto dX8_isSign_67 rfl ?_
                exact tq_ireturn dX8_isSign_71 (by decide) rfl
              · refine tq_iload_n dX8_isSign_42 rfl ?_
                refine tq_bipush (v := 45) dX8_isSign_43 (by decide) ?_
                refine tq_icmp_eq dX8_isSign_45 rfl ?_ ?_
                · refine tq_iconst (v := 1) dX8_isSign_66 (by decide) ?_
                  refine tq_goto dX8_isSign_67 rfl ?_
                  exact tq_ireturn dX8_isSign_71 (by decide) rfl
                · refine tq_iload_n dX8_isSign_48 rfl ?_
                  refine tq_bipush (v := 42) dX8_isSign_49 (by decide) ?_
                  refine tq_icmp_eq dX8_isSign_51 rfl ?_ ?_
                  · refine tq_iconst (v := 1) dX8_isSign_66 (by decide) ?_
                    refine tq_goto dX8_isSign_67 rfl ?_
                    exact tq_ireturn dX8_isSign_71 (by decide) rfl
                  · refine tq_iload_n dX8_isSign_54 rfl ?_
                    refine tq_bipush (v := 47) dX8_isSign_55 (by decide) ?_
                    refine tq_icmp_eq dX8_isSign_57 rfl ?_ ?_
                    · refine tq_iconst (v := 1) dX8_isSign_66 (by decide) ?_
                      refine tq_goto dX8_isSign_67 rfl ?_
                      exact tq_ireturn dX8_isSign_71 (by decide) rfl
                    · refine tq_iload_n dX8_isSign_60 rfl ?_
                      refine tq_bipush (v := 37) dX8_isSign_61 (by decide) ?_
                      refine tq_icmp_ne dX8_isSign_63 rfl ?_ ?_
                      · refine tq_iconst (v := 0) dX8_isSign_70 (by decide) ?_
                        exact tq_ireturn dX8_isSign_71 (by decide) rfl
                      · refine tq_iconst (v := 1) dX8_isSign_66 (by decide) ?_
                        refine tq_goto dX8_isSign_67 rfl ?_
                        exact tq_ireturn dX8_isSign_71 (by decide) rfl
abbrev Pfm_token_b0 (G : ai_G) (d M : Nat) (h0 : ai_H)  : mS ⊕ mS → Option ai_R → Prop := Sum.elim (fun (q : mS) run => ∃ J : JV × JV, run = ai_run G (d + 1) 94 0 [some (.ref M), J.1.1, J.2.1] [] (mH M q h0)) (fun (q : mS) run => ∃ J : JV × JV, run = ai_run G (d + 1) 94 33 [some (.ref M), J.1.1, J.2.1] [] (mH M q h0))
theorem Bfm_token_b0 {G : ai_G} {d M : Nat} {h0 : ai_H}  (b0 : mS) (J : JV × JV) : Tj G (d + 1) 94 (Pfm_token_b0 G d M h0) (some (.inl b0)) 0 [some (.ref M), J.1.1, J.2.1] [] (mH M b0 h0) := tq_back J rfl rfl
theorem Efm_token_b0 {G : ai_G} {d M : Nat} {h0 : ai_H}  (b0 : mS) (J : JV × JV) : Tj G (d + 1) 94 (Pfm_token_b0 G d M h0) (some (.inr b0)) 33 [some (.ref M), J.1.1, J.2.1] [] (mH M b0 h0) := tq_exit J rfl rfl
theorem wfm_token_j20 {G : ai_G} {d M : Nat} {h0 : ai_H} (j1 : JV) (j2 : JV)   (s : mS): Tj G (d + 1) 94 (Pfm_token_b0 G d M h0) (fm_token_j20 s) 20 [some (.ref M), j1.1, j2.1] [] (mH M s h0) := by
  unfold fm_token_j20
  refine tq_aload_n dX8_token_20 rfl ?_
  refine tq_dup dX8_token_21 rfl ?_
  refine tm_gi (k9 := 4) dX8_token_22 rfl rfl ?_
  refine tq_iconst (v := 1) dX8_token_25 (by decide) ?_
  refine tq_iadd dX8_token_26 ?_
  refine tm_pi dX8_token_27 rfl rfl (fun s27 => ?_)
  refine tq_goto dX8_token_30 rfl ?_
  exact Bfm_token_b0 _ (j1, j2)
theorem wfm_token_b0 {G : ai_G} {d M : Nat} {h0 : ai_H}  (q : mS) (J : JV × JV) : Tj G (d + 1) 94 (Pfm_token_b0 G d M h0) (fm_token_b0 q) 0 [some (.ref M), J.1.1, J.2.1] [] (mH M q h0) := by
  unfold fm_token_b0
  refine tq_aload_n dX8_token_0 rfl ?_
  refine tq_iconst (v := 0) dX8_token_1 (by decide) ?_
  refine tm_c1_i dX8_token_2 rfl rfl rfl (Nat.le_of_ble_eq_true rfl) (wfm_here (d := d) _ _) (fun p2 => ?_)
  refine tq_bipush (v := 32) dX8_token_5 (by decide) ?_
  refine tq_icmp_eq dX8_token_7 rfl ?_ ?_
  · exact wfm_token_j20 J.1 J.2 _
  · refine tq_aload_n dX8_token_10 rfl ?_
    refine tq_iconst (v := 0) dX8_token_11 (by decide) ?_
    refine tm_c1_i dX8_token_12 rfl rfl rfl (Nat.le_of_ble_eq_true rfl) (wfm_here (d := d) _ _) (fun p12 => ?_)
    refine tq_bipush (v := 10) dX8_token_15 (by decide) ?_
    refine tq_icmp_ne dX8_token_17 rfl ?_ ?_
    · exact Efm_token_b0 _ (J.1, J.2)
    · exact wfm_token_j20 J.1 J.2 _
theorem Sfm_token_b0 {G : ai_G} {d M : Nat} {h0 : ai_H} {α : Type} {P : α → Option ai_R → Prop}  (b0 : mS) (J : JV × JV) {r : mS → Option α} (kk : ∀ (q : mS) (J : JV × JV), Tj G (d + 1) 94 P (r q) 33 [some (.ref M), J.1.1, J.2.1] [] (mH M q h0)) : Tj G (d + 1) 94 P ((lp fm_token_b0 b0).bind r) 0 [some (.ref M), J.1.1, J.2.1] [] (mH M b0 h0) := tq_lp1 (J := J) (fun q J => wfm_token_b0  q J) rfl rfl kk
theorem wfm_token_j232 {G : ai_G} {d M : Nat} {h0 : ai_H} (j1 : JV)   (s : mS) (v2 : Int32): Tj G (d + 1) 94 (PmV M h0) (fm_token_j232 s v2) 232 [some (.ref M), j1.1, some (.int v2)] [] (mH M s h0) := by
  unfold fm_token_j232
  refine tq_aload_n dX8_token_232 rfl ?_
  refine tm_gi (k9 := 6) dX8_token_233 rfl rfl ?_
  refine tq_iconst (v := 3) dX8_token_236 (by decide) ?_
  refine tq_icmp_eq dX8_token_237 rfl ?_ ?_
  · exact tq_return dX8_token_250 rfl rfl
  · refine tq_aload_n dX8_token_240 rfl ?_
    refine tq_dup dX8_token_241 rfl ?_
    refine tm_gi (k9 := 4) dX8_token_242 rfl rfl ?_
    refine tq_iload_n dX8_token_245 rfl ?_
    refine tq_iadd dX8_token_246 ?_
    refine tm_pi dX8_token_247 rfl rfl (fun s247 => ?_)
    exact tq_return dX8_token_250 rfl rfl
theorem wfm_token_j229 {G : ai_G} {d M : Nat} {h0 : ai_H} (j1 : JV)   (s : mS) (v2 : Int32) (t1 : Int32): Tj G (d + 1) 94 (PmV M h0) (fm_token_j229 s v2 t1) 229 [some (.ref M), j1.1, some (.int v2)] [.int t1, .ref M] (mH M s h0) := by
  unfold fm_token_j229
  refine tm_pi dX8_token_229 rfl rfl (fun s229 => ?_)
  exact wfm_token_j232 j1 _ _
abbrev Pfm_token_b144 (G : ai_G) (d M : Nat) (h0 : ai_H)  : (Int32 × mS) ⊕ (Int32 × mS) → Option ai_R → Prop := Sum.elim (fun (q : Int32 × mS) run => ∃ J : JV, run = ai_run G (d + 1) 94 144 [some (.ref M), J.1, some (.int q.1)] [] (mH M q.2 h0)) (fun (q : Int32 × mS) run => ∃ J : JV, run = ai_run G (d + 1) 94 186 [some (.ref M), J.1, some (.int q.1)] [] (mH M q.2 h0))
theorem Bfm_token_b144 {G : ai_G} {d M : Nat} {h0 : ai_H}  (b0 : Int32) (b1 : mS) (J : JV) : Tj G (d + 1) 94 (Pfm_token_b144 G d M h0) (some (.inl (b0, b1))) 144 [some (.ref M), J.1, some (.int b0)] [] (mH M b1 h0) := tq_back J rfl rfl
theorem Efm_token_b144 {G : ai_G} {d M : Nat} {h0 : ai_H}  (b0 : Int32) (b1 : mS) (J : JV) : Tj G (d + 1) 94 (Pfm_token_b144 G d M h0) (some (.inr (b0, b1))) 186 [some (.ref M), J.1, some (.int b0)] [] (mH M b1 h0) := tq_exit J rfl rfl
theorem wfm_token_b144 {G : ai_G} {d M : Nat} {h0 : ai_H}  (q : Int32 × mS) (J : JV) : Tj G (d + 1) 94 (Pfm_token_b144 G d M h0) (fm_token_b144 q) 144 [some (.ref M), J.1, some (.int q.1)] [] (mH M q.2 h0) := by
  unfold fm_token_b144
  refine tq_aload_n dX8_token_144 rfl ?_
  refine tq_iload_n dX8_token_145 rfl ?_
  refine tm_c1_i dX8_token_146 rfl rfl rfl (Nat.le_of_ble_eq_true rfl) (wfm_here (d := d) _ _) (fun p146 => ?_)
  refine ts_c1_i dX8_token_149 rfl rfl rfl (Nat.le_of_ble_eq_true rfl) (wfm_isDigit (d := d) _) (fun p149 => ?_)
  refine tq_if_eq dX8_token_152 rfl ?_ ?_
  · exact Efm_token_b144 _ _ J
  · refine tq_iload_n dX8_token_155 rfl ?_
    refine tq_iconst (v := 4) dX8_token_156 (by decide) ?_
    refine tq_icmp_ge dX8_token_157 rfl ?_ ?_
    · refine tq_iinc (v := (q.1 + 1)) (L' := [_, _, _]) dX8_token_180 rfl (Nat.le_of_ble_eq_true rfl) rfl (st1_jv (i := 1) (j := J) rfl rfl) ?_
      refine tq_goto dX8_token_183 rfl ?_
      exact Bfm_token_b144 _ _ J
    · refine tq_aload_n dX8_token_160 rfl ?_
      refine tq_bipush (v := 10) dX8_token_161 (by decide) ?_
      refine tq_aload_n dX8_token_163 rfl ?_
      refine tm_gi (k9 := 8) dX8_token_164 rfl rfl ?_
      refine tq_imul dX8_token_167 ?_
      refine tq_aload_n dX8_token_168 rfl ?_
      refine tq_iload_n dX8_token_169 rfl ?_
      refine tm_c1_i dX8_token_170 rfl rfl rfl (Nat.le_of_ble_eq_true rfl) (wfm_here (d := d) _ _) (fun p170 => ?_)
      refine tq_iadd dX8_token_173 ?_
      refine tq_bipush (v := 48) dX8_token_174 (by decide) ?_
      refine tq_isub dX8_token_176 ?_
      refine tm_pi dX8_token_177 rfl rfl (fun s177 => ?_)
      refine tq_iinc (v := (q.1 + 1)) (L' := [_, _, _]) dX8_token_180 rfl (Nat.le_of_ble_eq_true rfl) rfl (st1_jv (i := 1) (j := J) rfl rfl) ?_
      refine tq_goto dX8_token_183 rfl ?_
      exact Bfm_token_b144 _ _ J
theorem Sfm_token_b144 {G : ai_G} {d M : Nat} {h0 : ai_H} {α : Type} {P : α → Option ai_R → Prop}  (b0 : Int32) (b1 : mS) (J : JV) {r : (Int32 × mS) → Option α} (kk : ∀ (q : Int32 × mS) (J : JV), Tj G (d + 1) 94 P (r q) 186 [some (.ref M), J.1, some (.int q.1)] [] (mH M q.2 h0)) : Tj G (d + 1) 94 P ((lp fm_token_b144 (b0, b1)).bind r) 144 [some (.ref M), J.1, some (.int b0)] [] (mH M b1 h0) := tq_lp1 (J := J) (fun q J => wfm_token_b144  q J) rfl rfl kk
theorem wfm_token_j208 {G : ai_G} {d M : Nat} {h0 : ai_H} (j1 : JV)   (s : mS) (v2 : Int32) (t1 : Int32): Tj G (d + 1) 94 (PmV M h0) (fm_token_j208 s v2 t1) 208 [some (.ref M), j1.1, some (.int v2)] [.int t1, .ref M] (mH M s h0) := by
  unfold fm_token_j208
  refine tm_pi dX8_token_208 rfl rfl (fun s208 => ?_)
  refine tq_goto dX8_token_211 rfl ?_
  exact wfm_token_j232 j1 _ _
theorem wfm_token_j203 {G : ai_G} {d M : Nat} {h0 : ai_H} (j1 : JV)   (s : mS) (v2 : Int32): Tj G (d + 1) 94 (PmV M h0) (fm_token_j203 s v2) 203 [some (.ref M), j1.1, some (.int v2)] [.ref M] (mH M s h0) := by
  unfold fm_token_j203
  refine tq_iconst (v := 3) dX8_token_203 (by decide) ?_
  refine tq_goto dX8_token_204 rfl ?_
  exact wfm_token_j208 j1 _ _ _
abbrev Pfm_token_b78 (G : ai_G) (d M : Nat) (h0 : ai_H)  : (Int32 × mS) ⊕ (Int32 × mS) → Option ai_R → Prop := Sum.elim (fun (q : Int32 × mS) run => ∃ J : JV, run = ai_run G (d + 1) 94 78 [some (.ref M), J.1, some (.int q.1)] [] (mH M q.2 h0)) (fun (q : Int32 × mS) run => ∃ J : JV, run = ai_run G (d + 1) 94 119 [some (.ref M), J.1, some (.int q.1)] [] (mH M q.2 h0))
theorem Bfm_token_b78 {G : ai_G} {d M : Nat} {h0 : ai_H}  (b0 : Int32) (b1 : mS) (J : JV) : Tj G (d + 1) 94 (Pfm_token_b78 G d M h0) (some (.inl (b0, b1))) 78 [some (.ref M), J.1, some (.int b0)] [] (mH M b1 h0) := tq_back J rfl rfl
theorem Efm_token_b78 {G : ai_G} {d M : Nat} {h0 : ai_H}  (b0 : Int32) (b1 : mS) (J : JV) : Tj G (d + 1) 94 (Pfm_token_b78 G d M h0) (some (.inr (b0, b1))) 119 [some (.ref M), J.1, some (.int b0)] [] (mH M b1 h0) := tq_exit J rfl rfl
theorem wfm_token_b78 {G : ai_G} {d M : Nat} {h0 : ai_H}  (q : Int32 × mS) (J : JV) : Tj G (d + 1) 94 (Pfm_token_b78 G d M h0) (fm_token_b78 q) 78 [some (.ref M), J.1, some (.int q.1)] [] (mH M q.2 h0) := by
  unfold fm_token_b78
  refine tq_aload_n dX8_token_78 rfl ?_
  refine tq_iload_n dX8_token_79 rfl ?_
  refine tm_c1_i dX8_token_80 rfl rfl rfl (Nat.le_of_ble_eq_true rfl) (wfm_here (d := d) _ _) (fun p80 => ?_)
  refine ts_c1_i dX8_token_83 rfl rfl rfl (Nat.le_of_ble_eq_true rfl) (wfm_isLetter (d := d) _) (fun p83 => ?_)
  refine tq_if_eq dX8_token_86 rfl ?_ ?_
  · exact Efm_token_b78 _ _ J
  · refine tq_iload_n dX8_token_89 rfl ?_
    refine tq_bipush (v := 8) dX8_token_90 (by decide) ?_
    refine tq_icmp_ge dX8_token_92 rfl ?_ ?_
    · refine tq_iinc (v := (q.1 + 1)) (L' := [_, _, _]) dX8_token_113 rfl (Nat.le_of_ble_eq_true rfl) rfl (st1_jv (i := 1) (j := J) rfl rfl) ?_
      refine tq_goto dX8_token_116 rfl ?_
      exact Bfm_token_b78 _ _ J
    · refine tq_aload_n dX8_token_95 rfl ?_
      refine tq_aload_n dX8_token_96 rfl ?_
      refine tm_gw dX8_token_97 rfl rfl ?_
      refine tq_bipush (v := 8) dX8_token_100 (by decide) ?_
      refine tq_lshl dX8_token_102 ?_
      refine tq_aload_n dX8_token_103 rfl ?_
      refine tq_iload_n dX8_token_104 rfl ?_
      refine tm_c1_i dX8_token_105 rfl rfl rfl (Nat.le_of_ble_eq_true rfl) (wfm_here (d := d) _ _) (fun p105 => ?_)
      refine tq_i2l dX8_token_108 ?_
      refine tq_lor dX8_token_109 ?_
      refine tm_pw dX8_token_110 rfl (fun s110 => ?_)
      refine tq_iinc (v := (q.1 + 1)) (L' := [_, _, _]) dX8_token_113 rfl (Nat.le_of_ble_eq_true rfl) rfl (st1_jv (i := 1) (j := J) rfl rfl) ?_
      refine tq_goto dX8_token_116 rfl ?_
      exact Bfm_token_b78 _ _ J
theorem Sfm_token_b78 {G : ai_G} {d M : Nat} {h0 : ai_H} {α : Type} {P : α → Option ai_R → Prop}  (b0 : Int32) (b1 : mS) (J : JV) {r : (Int32 × mS) → Option α} (kk : ∀ (q : Int32 × mS) (J : JV), Tj G (d + 1) 94 P (r q) 119 [some (.ref M), J.1, some (.int q.1)] [] (mH M q.2 h0)) : Tj G (d + 1) 94 P ((lp fm_token_b78 (b0, b1)).bind r) 78 [some (.ref M), J.1, some (.int b0)] [] (mH M b1 h0) := tq_lp1 (J := J) (fun q J => wfm_token_b78  q J) rfl rfl kk
theorem wfm_token_j131 {G : ai_G} {d M : Nat} {h0 : ai_H} (j1 : JV)   (s : mS) (v2 : Int32) (t1 : Int32): Tj G (d + 1) 94 (PmV M h0) (fm_token_j131 s v2 t1) 131 [some (.ref M), j1.1, some (.int v2)] [.int t1, .ref M] (mH M s h0) := by
  unfold fm_token_j131
  refine tm_pi dX8_token_131 rfl rfl (fun s131 => ?_)
  refine tq_goto dX8_token_134 rfl ?_
  exact wfm_token_j232 j1 _ _
theorem wfm_token {G : ai_G} {d M : Nat} {h0 : ai_H} (s : mS) : ∀ r, fm_token s = some r → (PmV M h0) r (ai_call G (d + 2) 94 [.ref M] (mH M s h0)) := by
  refine tq_meth (P := (PmV M h0)) (d := (d + 1)) (Nat.le_of_ble_eq_true rfl) ?_
  show Tj G (d + 1) 94 (PmV M h0) (fm_token s) 0 [some (.ref M), none, none] [] (mH M s h0)
  unfold fm_token
  refine Sfm_token_b0 _ (⟨none, rfl⟩, ⟨none, rfl⟩) (fun q0 J0 => ?_)
  refine tq_aload_n dX8_token_33 rfl ?_
  refine tq_aload_n dX8_token_34 rfl ?_
  refine tm_gi (k9 := 4) dX8_token_35 rfl rfl ?_
  refine tm_pi dX8_token_38 rfl rfl (fun s38 => ?_)
  refine tq_aload_n dX8_token_41 rfl ?_
  refine tq_iconst (v := 0) dX8_token_42 (by decide) ?_
  refine tm_c1_i dX8_token_43 rfl rfl rfl (Nat.le_of_ble_eq_true rfl) (wfm_here (d := d) _ _) (fun p43 => ?_)
  refine tq_istore_n (L' := [_, _, _]) dX8_token_46 (Nat.le_of_ble_eq_true rfl) rfl ?_
  refine tq_iconst (v := 0) dX8_token_47 (by decide) ?_
  refine tq_istore_n (L' := [_, _, _]) dX8_token_48 (Nat.le_of_ble_eq_true rfl) rfl ?_
  refine tq_aload_n dX8_token_49 rfl ?_
  refine tq_lconst (v := 0) dX8_token_50 (by decide) ?_
  refine tm_pw dX8_token_51 rfl (fun s51 => ?_)
  refine tq_aload_n dX8_token_54 rfl ?_
  refine tq_iconst (v := 0) dX8_token_55 (by decide) ?_
  refine tm_pi dX8_token_56 rfl rfl (fun s56 => ?_)
  refine tq_iload_n dX8_token_59 rfl ?_
  refine tq_if_ge dX8_token_60 rfl ?_ ?_
  · refine tq_iload_n dX8_token_71 rfl ?_
    refine ts_c1_i dX8_token_72 rfl rfl rfl (Nat.le_of_ble_eq_true rfl) (wfm_isLetter (d := d) _) (fun p72 => ?_)
    refine tq_if_eq dX8_token_75 rfl ?_ ?_
    · refine tq_iload_n dX8_token_137 rfl ?_
      refine ts_c1_i dX8_token_138 rfl rfl rfl (Nat.le_of_ble_eq_true rfl) (wfm_isDigit (d := d) _) (fun p138 => ?_)
      refine tq_if_eq dX8_token_141 rfl ?_ ?_
      · refine tq_iconst (v := 1) dX8_token_214 (by decide) ?_
        refine tq_istore_n (L' := [_, _, _]) dX8_token_215 (Nat.le_of_ble_eq_true rfl) rfl ?_
        refine tq_aload_n dX8_token_216 rfl ?_
        refine tq_iload_n dX8_token_217 rfl ?_
        refine ts_c1_i dX8_token_218 rfl rfl rfl (Nat.le_of_ble_eq_true rfl) (wfm_isSign (d := d) _) (fun p218 => ?_)
        refine tq_if_eq dX8_token_221 rfl ?_ ?_
        · refine tq_iconst (v := 3) dX8_token_228 (by decide) ?_
          exact wfm_token_j229 ⟨some (.int p43), rfl⟩ _ _ _
        · refine tq_iload_n dX8_token_224 rfl ?_
          refine tq_goto dX8_token_225 rfl ?_
          exact wfm_token_j229 ⟨some (.int p43), rfl⟩ _ _ _
      · refine Sfm_token_b144 _ _ ⟨some (.int p43), rfl⟩ (fun q144 J144 => ?_)
        refine tq_aload_n dX8_token_186 rfl ?_
        refine tq_iload_n dX8_token_187 rfl ?_
        refine tq_iconst (v := 4) dX8_token_188 (by decide) ?_
        refine tq_icmp_gt dX8_token_189 rfl ?_ ?_
        · exact wfm_token_j203 J144 _ _
        · refine tq_aload_n dX8_token_192 rfl ?_
          refine tq_iload_n dX8_token_193 rfl ?_
          refine tm_c1_i dX8_token_194 rfl rfl rfl (Nat.le_of_ble_eq_true rfl) (wfm_here (d := d) _ _) (fun p194 => ?_)
          refine ts_c1_i dX8_token_197 rfl rfl rfl (Nat.le_of_ble_eq_true rfl) (wfm_isLetter (d := d) _) (fun p197 => ?_)
          refine tq_if_eq dX8_token_200 rfl ?_ ?_
          · refine tq_iconst (v := 2) dX8_token_207 (by decide) ?_
            exact wfm_token_j208 J144 _ _ _
          · exact wfm_token_j203 J144 _ _
    · refine Sfm_token_b78 _ _ ⟨some (.int p43), rfl⟩ (fun q78 J78 => ?_)
      refine tq_aload_n dX8_token_119 rfl ?_
      refine tq_iload_n dX8_token_120 rfl ?_
      refine tq_bipush (v := 8) dX8_token_121 (by decide) ?_
      refine tq_icmp_le dX8_token_123 rfl ?_ ?_
      · refine tq_iconst (v := 1) dX8_token_130 (by decide) ?_
        exact wfm_token_j131 J78 _ _ _
      · refine tq_iconst (v := 3) dX8_token_126 (by decide) ?_
        refine tq_goto dX8_token_127 rfl ?_
        exact wfm_token_j131 J78 _ _ _
  · refine tq_aload_n dX8_token_63 rfl ?_
    refine tq_iconst (v := 0) dX8_token_64 (by decide) ?_
    refine tm_pi dX8_token_65 rfl rfl (fun s65 => ?_)
    refine tq_goto dX8_token_68 rfl ?_
    exact wfm_token_j232 ⟨some (.int p43), rfl⟩ _ _
theorem wfm_isWord {G : ai_G} {d M : Nat} {h0 : ai_H} (s : mS) (v1 : Int64) : ∀ r, fm_isWord s v1 = some r → (Pi (mH M s h0)) r (ai_call G (d + 1) 95 [.ref M, .long v1] (mH M s h0)) := by
  refine tq_meth (P := (Pi (mH M s h0))) (d := d) (Nat.le_of_ble_eq_true rfl) ?_
  show Tj G d 95 (Pi (mH M s h0)) (fm_isWord s v1) 0 [some (.ref M), some (.long v1), none] [] (mH M s h0)
  unfold fm_isWord
  refine tq_aload_n dX8_isWord_0 rfl ?_
  refine tm_gi (k9 := 6) dX8_isWord_1 rfl rfl ?_
  refine tq_iconst (v := 1) dX8_isWord_4 (by decide) ?_
  refine tq_icmp_ne dX8_isWord_5 rfl ?_ ?_
  · refine tq_iconst (v := 0) dX8_isWord_21 (by decide) ?_
    exact tq_ireturn dX8_isWord_22 (by decide) rfl
  · refine tq_aload_n dX8_isWord_8 rfl ?_
    refine tm_gw dX8_isWord_9 rfl rfl ?_
    refine tq_lload_n dX8_isWord_12 rfl ?_
    refine tq_lcmp dX8_isWord_13 ?_
    refine tq_if_ne dX8_isWord_14 rfl ?_ ?_
    · refine tq_iconst (v := 0) dX8_isWord_21 (by decide) ?_
      exact tq_ireturn dX8_isWord_22 (by decide) rfl
    · refine tq_iconst (v := 1) dX8_isWord_17 (by decide) ?_
      refine tq_goto dX8_isWord_18 rfl ?_
      exact tq_ireturn dX8_isWord_22 (by decide) rfl
theorem wfm_wrong {G : ai_G} {d M : Nat} {h0 : ai_H} (s : mS) (v1 : Int32) : ∀ r, fm_wrong s v1 = some r → (PmV M h0) r (ai_call G (d + 1) 96 [.ref M, .int v1] (mH M s h0)) := by
  refine tq_meth (P := (PmV M h0)) (d := d) (Nat.le_of_ble_eq_true rfl) ?_
  show Tj G d 96 (PmV M h0) (fm_wrong s v1) 0 [some (.ref M), some (.int v1)] [] (mH M s h0)
  unfold fm_wrong
  refine tq_aload_n dX8_wrong_0 rfl ?_
  refine tm_gi (k9 := 2) dX8_wrong_1 rfl rfl ?_
  refine tq_if_le dX8_wrong_4 rfl ?_ ?_
  · refine tq_aload_n dX8_wrong_8 rfl ?_
    refine tq_aload_n dX8_wrong_9 rfl ?_
    refine tm_gi (k9 := 6) dX8_wrong_10 rfl rfl ?_
    refine tq_iconst (v := 3) dX8_wrong_13 (by decide) ?_
    refine tq_icmp_ne dX8_wrong_14 rfl ?_ ?_
    · refine tq_iload_n dX8_wrong_21 rfl ?_
      refine tm_pi dX8_wrong_22 rfl rfl (fun s22 => ?_)
      refine tq_aload_n dX8_wrong_25 rfl ?_
      refine tq_aload_n dX8_wrong_26 rfl ?_
      refine tm_gi (k9 := 7) dX8_wrong_27 rfl rfl ?_
      refine tm_pi dX8_wrong_30 rfl rfl (fun s30 => ?_)
      exact tq_return dX8_wrong_33 rfl rfl
    · refine tq_iconst (v := 1) dX8_wrong_17 (by decide) ?_
      refine tq_goto dX8_wrong_18 rfl ?_
      refine tm_pi dX8_wrong_22 rfl rfl (fun s22 => ?_)
      refine tq_aload_n dX8_wrong_25 rfl ?_
      refine tq_aload_n dX8_wrong_26 rfl ?_
      refine tm_gi (k9 := 7) dX8_wrong_27 rfl rfl ?_
      refine tm_pi dX8_wrong_30 rfl rfl (fun s30 => ?_)
      exact tq_return dX8_wrong_33 rfl rfl
  · exact tq_return dX8_wrong_7 rfl rfl
theorem wfm_toldNumber_j46 {G : ai_G} {d M : Nat} {h0 : ai_H} (j1 : JV) (j2 : JV) (j3 : JV)   (s : mS): Tj G (d + 2) 97 (PmI M h0) (fm_toldNumber_j46 s) 46 [some (.ref M), j1.1, j2.1, j3.1] [] (mH M s h0) := by
  unfold fm_toldNumber_j46
  refine tq_aload_n dX8_toldNumber_46 rfl ?_
  refine tm_gi (k9 := 8) dX8_toldNumber_47 rfl rfl ?_
  refine tq_istore_n (L' := [_, _, _, _]) dX8_toldNumber_50 (Nat.le_of_ble_eq_true rfl) (st1_jv (i := 2) (j := j2) rfl rfl) ?_
  refine tq_aload_n dX8_toldNumber_51 rfl ?_
  refine tm_gi (k9 := 2) dX8_toldNumber_52 rfl rfl ?_
  refine tq_if_ne dX8_toldNumber_55 rfl ?_ ?_
  · refine tq_iload_n dX8_toldNumber_62 rfl ?_
    exact tq_ireturn dX8_toldNumber_63 rfl rfl
  · refine tq_aload_n dX8_toldNumber_58 rfl ?_
    refine tm_c0_V dX8_toldNumber_59 rfl rfl rfl (Nat.le_of_ble_eq_true rfl) (wfm_token (d := d) _) (fun p59 => ?_)
    refine tq_iload_n dX8_toldNumber_62 rfl ?_
    exact tq_ireturn dX8_toldNumber_63 rfl rfl
theorem wfm_toldNumber_j41 {G : ai_G} {d M : Nat} {h0 : ai_H} (j1 : JV) (j2 : JV) (j3 : JV)   (s : mS): Tj G (d + 2) 97 (PmI M h0) (fm_toldNumber_j41 s) 41 [some (.ref M), j1.1, j2.1, j3.1] [] (mH M s h0) := by
  unfold fm_toldNumber_j41
  refine tq_aload_n dX8_toldNumber_41 rfl ?_
  refine tq_iconst (v := 4) dX8_toldNumber_42 (by decide) ?_
  refine tm_c1_V dX8_toldNumber_43 rfl rfl rfl (Nat.le_of_ble_eq_true rfl) (wfm_wrong (d := d + 1) _ _) (fun p43 => ?_)
  exact wfm_toldNumber_j46 j1 j2 j3 _
theorem wfm_toldNumber {G : ai_G} {d M : Nat} {h0 : ai_H} (s : mS) (v1 : Int32) (v2 : Int32) : ∀ r, fm_toldNumber s v1 v2 = some r → (PmI M h0) r (ai_call G (d + 3) 97 [.ref M, .int v1, .int v2] (mH M s h0)) := by
  refine tq_meth (P := (PmI M h0)) (d := (d + 2)) (Nat.le_of_ble_eq_true rfl) ?_
  show Tj G (d + 2) 97 (PmI M h0) (fm_toldNumber s v1 v2) 0 [some (.ref M), some (.int v1), some (.int v2), none] [] (mH M s h0)
  unfold fm_toldNumber
  refine tq_aload_n dX8_toldNumber_0 rfl ?_
  refine tm_gi (k9 := 2) dX8_toldNumber_1 rfl rfl ?_
  refine tq_if_le dX8_toldNumber_4 rfl ?_ ?_
  · refine tq_aload_n dX8_toldNumber_9 rfl ?_
    refine tm_gi (k9 := 6) dX8_toldNumber_10 rfl rfl ?_
    refine tq_iconst (v := 2) dX8_toldNumber_13 (by decide) ?_
    refine tq_icmp_eq dX8_toldNumber_14 rfl ?_ ?_
    · refine tq_aload_n dX8_toldNumber_25 rfl ?_
      refine tm_gi (k9 := 8) dX8_toldNumber_26 rfl rfl ?_
      refine tq_iload_n dX8_toldNumber_29 rfl ?_
      refine tq_icmp_lt dX8_toldNumber_30 rfl ?_ ?_
      · exact wfm_toldNumber_j41 ⟨some (.int v1), rfl⟩ ⟨some (.int v2), rfl⟩ ⟨none, rfl⟩ _
      · refine tq_aload_n dX8_toldNumber_33 rfl ?_
        refine tm_gi (k9 := 8) dX8_toldNumber_34 rfl rfl ?_
        refine tq_iload_n dX8_toldNumber_37 rfl ?_
        refine tq_icmp_le dX8_toldNumber_38 rfl ?_ ?_
        · exact wfm_toldNumber_j46 ⟨some (.int v1), rfl⟩ ⟨some (.int v2), rfl⟩ ⟨none, rfl⟩ _
        · exact wfm_toldNumber_j41 ⟨some (.int v1), rfl⟩ ⟨some (.int v2), rfl⟩ ⟨none, rfl⟩ _
    · refine tq_aload_n dX8_toldNumber_17 rfl ?_
      refine tq_iconst (v := 2) dX8_toldNumber_18 (by decide) ?_
      refine tm_c1_V dX8_toldNumber_19 rfl rfl rfl (Nat.le_of_ble_eq_true rfl) (wfm_wrong (d := d + 1) _ _) (fun p19 => ?_)
      refine tq_goto dX8_toldNumber_22 rfl ?_
      exact wfm_toldNumber_j46 ⟨some (.int v1), rfl⟩ ⟨some (.int v2), rfl⟩ ⟨none, rfl⟩ _
  · refine tq_iconst (v := 0) dX8_toldNumber_7 (by decide) ?_
    exact tq_ireturn dX8_toldNumber_8 rfl rfl
theorem wfm_want {G : ai_G} {d M : Nat} {h0 : ai_H} (s : mS) (v1 : Int64) : ∀ r, fm_want s v1 = some r → (PmV M h0) r (ai_call G (d + 3) 98 [.ref M, .long v1] (mH M s h0)) := by
  refine tq_meth (P := (PmV M h0)) (d := (d + 2)) (Nat.le_of_ble_eq_true rfl) ?_
  show Tj G (d + 2) 98 (PmV M h0) (fm_want s v1) 0 [some (.ref M), some (.long v1), none] [] (mH M s h0)
  unfold fm_want
  refine tq_aload_n dX8_want_0 rfl ?_
  refine tm_gi (k9 := 2) dX8_want_1 rfl rfl ?_
  refine tq_if_le dX8_want_4 rfl ?_ ?_
  · refine tq_aload_n dX8_want_8 rfl ?_
    refine tq_lload_n dX8_want_9 rfl ?_
    refine tm_c1_i dX8_want_10 rfl rfl rfl (Nat.le_of_ble_eq_true rfl) (wfm_isWord (d := d + 1) _ _) (fun p10 => ?_)
    refine tq_if_ne dX8_want_13 rfl ?_ ?_
    · refine tq_aload_n dX8_want_24 rfl ?_
      refine tm_c0_V dX8_want_25 rfl rfl rfl (Nat.le_of_ble_eq_true rfl) (wfm_token (d := d) _) (fun p25 => ?_)
      exact tq_return dX8_want_28 rfl rfl
    · refine tq_aload_n dX8_want_16 rfl ?_
      refine tq_iconst (v := 2) dX8_want_17 (by decide) ?_
      refine tm_c1_V dX8_want_18 rfl rfl rfl (Nat.le_of_ble_eq_true rfl) (wfm_wrong (d := d + 1) _ _) (fun p18 => ?_)
      refine tq_goto dX8_want_21 rfl ?_
      exact tq_return dX8_want_28 rfl rfl
  · exact tq_return dX8_want_7 rfl rfl
theorem wfm_told {G : ai_G} {d M : Nat} {h0 : ai_H} (s : mS) (v1 : Int64) (v3 : Int32) (v4 : Int32) : ∀ r, fm_told s v1 v3 v4 = some r → (PmI M h0) r (ai_call G (d + 4) 99 [.ref M, .long v1, .int v3, .int v4] (mH M s h0)) := by
  refine tq_meth (P := (PmI M h0)) (d := (d + 3)) (Nat.le_of_ble_eq_true rfl) ?_
  show Tj G (d + 3) 99 (PmI M h0) (fm_told s v1 v3 v4) 0 [some (.ref M), some (.long v1), none, some (.int v3), some (.int v4)] [] (mH M s h0)
  unfold fm_told
  refine tq_aload_n dX8_told_0 rfl ?_
  refine tq_lload_n dX8_told_1 rfl ?_
  refine tm_c1_V dX8_told_2 rfl rfl rfl (Nat.le_of_ble_eq_true rfl) (wfm_want (d := d) _ _) (fun p2 => ?_)
  refine tq_aload_n dX8_told_5 rfl ?_
  refine tq_iload_n dX8_told_6 rfl ?_
  refine tq_iload dX8_told_7 rfl ?_
  refine tm_c2_I dX8_told_9 rfl rfl rfl (Nat.le_of_ble_eq_true rfl) (wfm_toldNumber (d := d) _ _ _) (fun p9 => ?_)
  exact tq_ireturn dX8_told_12 rfl rfl
theorem wfm_readWater {G : ai_G} {d M : Nat} {h0 : ai_H} (s : mS) : ∀ r, fm_readWater s = some r → (PmV M h0) r (ai_call G (d + 5) 100 [.ref M] (mH M s h0)) := by
  refine tq_meth (P := (PmV M h0)) (d := (d + 4)) (Nat.le_of_ble_eq_true rfl) ?_
  show Tj G (d + 4) 100 (PmV M h0) (fm_readWater s) 0 [some (.ref M)] [] (mH M s h0)
  unfold fm_readWater
  refine tq_aload_n dX8_readWater_0 rfl ?_
  refine tm_c0_V dX8_readWater_1 rfl rfl rfl (Nat.le_of_ble_eq_true rfl) (wfm_token (d := d + 2) _) (fun p1 => ?_)
  refine tq_aload_n dX8_readWater_4 rfl ?_
  refine tq_aload_n dX8_readWater_5 rfl ?_
  refine tq_iconst (v := 1) dX8_readWater_6 (by decide) ?_
  refine tq_bipush (v := 8) dX8_readWater_7 (by decide) ?_
  refine tm_c2_I dX8_readWater_9 rfl rfl rfl (Nat.le_of_ble_eq_true rfl) (wfm_toldNumber (d := d + 1) _ _ _) (fun p9 => ?_)
  refine tm_pi dX8_readWater_12 rfl rfl (fun s12 => ?_)
  refine tq_aload_n dX8_readWater_15 rfl ?_
  refine tq_aload_n dX8_readWater_16 rfl ?_
  refine tq_ldc2 (v := .long 25209) dX8_readWater_17 rfl ?_
  refine tq_iconst (v := 1) dX8_readWater_20 (by decide) ?_
  refine tq_bipush (v := 6) dX8_readWater_21 (by decide) ?_
  refine tm_c3_I dX8_readWater_23 rfl rfl rfl (Nat.le_of_ble_eq_true rfl) (wfm_told (d := d) _ _ _ _) (fun p23 => ?_)
  refine tm_pi dX8_readWater_26 rfl rfl (fun s26 => ?_)
  exact tq_return dX8_readWater_29 rfl rfl
theorem wfm_readCell_10_j64 {G : ai_G} {d M : Nat} {h0 : ai_H} (j1 : JV)   (s : mS) (v2 : Int32) (v3 : Int32) (v4 : Int32): Tj G (d + 3) 101 (PmI M h0) (fm_readCell_10_j64 s v2 v3 v4) 64 [some (.ref M), j1.1, some (.int v2), some (.int v3), some (.int v4)] [] (mH M s h0) := by
  unfold fm_readCell_10_j64
  refine tq_bipush (v := 8) dX8_readCell_64 (by decide) ?_
  refine tq_aload_n dX8_readCell_66 rfl ?_
  refine tq_iload_n dX8_readCell_67 rfl ?_
  refine tq_iload_n dX8_readCell_68 rfl ?_
  refine tm_c2_I dX8_readCell_69 rfl rfl rfl (Nat.le_of_ble_eq_true rfl) (wfm_toldNumber (d := d) _ _ _) (fun p69 => ?_)
  refine tq_imul dX8_readCell_72 ?_
  refine tq_iload dX8_readCell_73 rfl ?_
  refine tq_iadd dX8_readCell_75 ?_
  exact tq_ireturn dX8_readCell_76 rfl rfl
theorem wfm_readCell_10 {G : ai_G} {d M : Nat} {h0 : ai_H} (s : mS) (v2 : Int32) (v3 : Int32) : ∀ r, fm_readCell_10 s v2 v3 = some r → (PmI M h0) r (ai_call G (d + 4) 101 [.ref M, .ref (M + 10), .int v2, .int v3] (mH M s h0)) := by
  refine tq_meth (P := (PmI M h0)) (d := (d + 3)) (Nat.le_of_ble_eq_true rfl) ?_
  show Tj G (d + 3) 101 (PmI M h0) (fm_readCell_10 s v2 v3) 0 [some (.ref M), some (.ref (M + 10)), some (.int v2), some (.int v3), none] [] (mH M s h0)
  unfold fm_readCell_10
  refine tq_aload_n dX8_readCell_0 rfl ?_
  refine tq_iconst (v := 0) dX8_readCell_1 (by decide) ?_
  refine tq_aload_n dX8_readCell_2 rfl ?_
  refine tm_gi (k9 := 38) dX8_readCell_3 rfl rfl ?_
  refine tq_iconst (v := 1) dX8_readCell_6 (by decide) ?_
  refine tq_isub dX8_readCell_7 ?_
  refine tm_c2_I dX8_readCell_8 rfl rfl rfl (Nat.le_of_ble_eq_true rfl) (wfm_toldNumber (d := d) _ _ _) (fun p8 => ?_)
  refine tq_istore (L' := [_, _, _, _, _]) dX8_readCell_11 (Nat.le_of_ble_eq_true rfl) rfl ?_
  refine tq_aload_n dX8_readCell_13 rfl ?_
  refine tm_gi (k9 := 2) dX8_readCell_14 rfl rfl ?_
  refine tq_if_ne dX8_readCell_17 rfl ?_ ?_
  · exact wfm_readCell_10_j64 ⟨some (.ref (M + 10)), rfl⟩ _ _ _ _
  · refine tq_aload_n dX8_readCell_20 rfl ?_
    refine tm_gi (k9 := 6) dX8_readCell_21 rfl rfl ?_
    refine tq_iconst (v := 2) dX8_readCell_24 (by decide) ?_
    refine tq_icmp_ne dX8_readCell_25 rfl ?_ ?_
    · exact wfm_readCell_10_j64 ⟨some (.ref (M + 10)), rfl⟩ _ _ _ _
    · refine tq_aload_n dX8_readCell_28 rfl ?_
      refine tm_gi (k9 := 8) dX8_readCell_29 rfl rfl ?_
      refine tq_iload_n dX8_readCell_32 rfl ?_
      refine tq_icmp_lt dX8_readCell_33 rfl ?_ ?_
      · exact wfm_readCell_10_j64 ⟨some (.ref (M + 10)), rfl⟩ _ _ _ _
      · refine tq_aload_n dX8_readCell_36 rfl ?_
        refine tm_gi (k9 := 8) dX8_readCell_37 rfl rfl ?_
        refine tq_iload_n dX8_readCell_40 rfl ?_
        refine tq_icmp_gt dX8_readCell_41 rfl ?_ ?_
        · exact wfm_readCell_10_j64 ⟨some (.ref (M + 10)), rfl⟩ _ _ _ _
        · refine tq_aload_n dX8_readCell_44 rfl ?_
          refine tq_bipush (v := 8) dX8_readCell_45 (by decide) ?_
          refine tq_aload_n dX8_readCell_47 rfl ?_
          refine tm_gi (k9 := 8) dX8_readCell_48 rfl rfl ?_
          refine tq_imul dX8_readCell_51 ?_
          refine tq_iload dX8_readCell_52 rfl ?_
          refine tq_iadd dX8_readCell_54 ?_
          refine tm_ild dX8_readCell_55 rfl (fun x55 => ?_)
          refine tq_if_lt dX8_readCell_56 rfl ?_ ?_
          · exact wfm_readCell_10_j64 ⟨some (.ref (M + 10)), rfl⟩ _ _ _ _
          · refine tq_aload_n dX8_readCell_59 rfl ?_
            refine tq_iconst (v := 3) dX8_readCell_60 (by decide) ?_
            refine tm_c1_V dX8_readCell_61 rfl rfl rfl (Nat.le_of_ble_eq_true rfl) (wfm_wrong (d := d + 2) _ _) (fun p61 => ?_)
            exact wfm_readCell_10_j64 ⟨some (.ref (M + 10)), rfl⟩ _ _ _ _
theorem wfm_readCurrent {G : ai_G} {d M : Nat} {h0 : ai_H} (s : mS) : ∀ r, fm_readCurrent s = some r → (PmV M h0) r (ai_call G (d + 5) 102 [.ref M] (mH M s h0)) := by
  refine tq_meth (P := (PmV M h0)) (d := (d + 4)) (Nat.le_of_ble_eq_true rfl) ?_
  show Tj G (d + 4) 102 (PmV M h0) (fm_readCurrent s) 0 [some (.ref M), none, none] [] (mH M s h0)
  unfold fm_readCurrent
  refine tq_aload_n dX8_readCurrent_0 rfl ?_
  refine tm_c0_V dX8_readCurrent_1 rfl rfl rfl (Nat.le_of_ble_eq_true rfl) (wfm_token (d := d + 2) _) (fun p1 => ?_)
  refine tq_aload_n dX8_readCurrent_4 rfl ?_
  refine tq_iconst (v := 0) dX8_readCurrent_5 (by decide) ?_
  refine tq_bipush (v := 7) dX8_readCurrent_6 (by decide) ?_
  refine tm_c2_I dX8_readCurrent_8 rfl rfl rfl (Nat.le_of_ble_eq_true rfl) (wfm_toldNumber (d := d + 1) _ _ _) (fun p8 => ?_)
  refine tq_istore_n (L' := [_, _, _]) dX8_readCurrent_11 (Nat.le_of_ble_eq_true rfl) rfl ?_
  refine tq_aload_n dX8_readCurrent_12 rfl ?_
  refine tq_ldc2 (v := .long 24948) dX8_readCurrent_13 rfl ?_
  refine tm_c1_V dX8_readCurrent_16 rfl rfl rfl (Nat.le_of_ble_eq_true rfl) (wfm_want (d := d + 1) _ _) (fun p16 => ?_)
  refine tq_aload_n dX8_readCurrent_19 rfl ?_
  refine tq_aload_n dX8_readCurrent_20 rfl ?_
  refine tm_ga (j := 10) dX8_readCurrent_21 rfl rfl ?_
  refine tq_iconst (v := 0) dX8_readCurrent_24 (by decide) ?_
  refine tq_aload_n dX8_readCurrent_25 rfl ?_
  refine tm_gi (k9 := 39) dX8_readCurrent_26 rfl rfl ?_
  refine tq_iconst (v := 1) dX8_readCurrent_29 (by decide) ?_
  refine tq_isub dX8_readCurrent_30 ?_
  refine tm_c3_I dX8_readCurrent_31 rfl rfl rfl (Nat.le_of_ble_eq_true rfl) (wfm_readCell_10 (d := d) _ _ _) (fun p31 => ?_)
  refine tq_istore_n (L' := [_, _, _]) dX8_readCurrent_34 (Nat.le_of_ble_eq_true rfl) rfl ?_
  refine tq_aload_n dX8_readCurrent_35 rfl ?_
  refine tm_gi (k9 := 2) dX8_readCurrent_36 rfl rfl ?_
  refine tq_if_le dX8_readCurrent_39 rfl ?_ ?_
  · refine tq_aload_n dX8_readCurrent_43 rfl ?_
    refine tm_ga (j := 10) dX8_readCurrent_44 rfl rfl ?_
    refine tq_iload_n dX8_readCurrent_47 rfl ?_
    refine tq_iload_n dX8_readCurrent_48 rfl ?_
    refine tm_ist dX8_readCurrent_49 rfl (fun s49 => ?_)
    refine tq_aload_n dX8_readCurrent_50 rfl ?_
    refine tq_dup dX8_readCurrent_51 rfl ?_
    refine tm_gi (k9 := 40) dX8_readCurrent_52 rfl rfl ?_
    refine tq_iconst (v := 1) dX8_readCurrent_55 (by decide) ?_
    refine tq_iadd dX8_readCurrent_56 ?_
    refine tm_pi dX8_readCurrent_57 rfl rfl (fun s57 => ?_)
    exact tq_return dX8_readCurrent_60 rfl rfl
  · exact tq_return dX8_readCurrent_42 rfl rfl
theorem wfm_readCell_11_j64 {G : ai_G} {d M : Nat} {h0 : ai_H} (j1 : JV)   (s : mS) (v2 : Int32) (v3 : Int32) (v4 : Int32): Tj G (d + 3) 101 (PmI M h0) (fm_readCell_11_j64 s v2 v3 v4) 64 [some (.ref M), j1.1, some (.int v2), some (.int v3), some (.int v4)] [] (mH M s h0) := by
  unfold fm_readCell_11_j64
  refine tq_bipush (v := 8) dX8_readCell_64 (by decide) ?_
  refine tq_aload_n dX8_readCell_66 rfl ?_
  refine tq_iload_n dX8_readCell_67 rfl ?_
  refine tq_iload_n dX8_readCell_68 rfl ?_
  refine tm_c2_I dX8_readCell_69 rfl rfl rfl (Nat.le_of_ble_eq_true rfl) (wfm_toldNumber (d := d) _ _ _) (fun p69 => ?_)
  refine tq_imul dX8_readCell_72 ?_
  refine tq_iload dX8_readCell_73 rfl ?_
  refine tq_iadd dX8_readCell_75 ?_
  exact tq_ireturn dX8_readCell_76 rfl rfl
theorem wfm_readCell_11 {G : ai_G} {d M : Nat} {h0 : ai_H} (s : mS) (v2 : Int32) (v3 : Int32) : ∀ r, fm_readCell_11 s v2 v3 = some r → (PmI M h0) r (ai_call G (d + 4) 101 [.ref M, .ref (M + 11), .int v2, .int v3] (mH M s h0)) := by
  refine tq_meth (P := (PmI M h0)) (d := (d + 3)) (Nat.le_of_ble_eq_true rfl) ?_
  show Tj G (d + 3) 101 (PmI M h0) (fm_readCell_11 s v2 v3) 0 [some (.ref M), some (.ref (M + 11)), some (.int v2), some (.int v3), none] [] (mH M s h0)
  unfold fm_readCell_11
  refine tq_aload_n dX8_readCell_0 rfl ?_
  refine tq_iconst (v := 0) dX8_readCell_1 (by decide) ?_
  refine tq_aload_n dX8_readCell_2 rfl ?_
  refine tm_gi (k9 := 38) dX8_readCell_3 rfl rfl ?_
  refine tq_iconst (v := 1) dX8_readCell_6 (by decide) ?_
  refine tq_isub dX8_readCell_7 ?_
  refine tm_c2_I dX8_readCell_8 rfl rfl rfl (Nat.le_of_ble_eq_true rfl) (wfm_toldNumber (d := d) _ _ _) (fun p8 => ?_)
  refine tq_istore (L' := [_, _, _, _, _]) dX8_readCell_11 (Nat.le_of_ble_eq_true rfl) rfl ?_
  refine tq_aload_n dX8_readCell_13 rfl ?_
  refine tm_gi (k9 := 2) dX8_readCell_14 rfl rfl ?_
  refine tq_if_ne dX8_readCell_17 rfl ?_ ?_
  · exact wfm_readCell_11_j64 ⟨some (.ref (M + 11)), rfl⟩ _ _ _ _
  · refine tq_aload_n dX8_readCell_20 rfl ?_
    refine tm_gi (k9 := 6) dX8_readCell_21 rfl rfl ?_
    refine tq_iconst (v := 2) dX8_readCell_24 (by decide) ?_
    refine tq_icmp_ne dX8_readCell_25 rfl ?_ ?_
    · exact wfm_readCell_11_j64 ⟨some (.ref (M + 11)), rfl⟩ _ _ _ _
    · refine tq_aload_n dX8_readCell_28 rfl ?_
      refine tm_gi (k9 := 8) dX8_readCell_29 rfl rfl ?_
      refine tq_iload_n dX8_readCell_32 rfl ?_
      refine tq_icmp_lt dX8_readCell_33 rfl ?_ ?_
      · exact wfm_readCell_11_j64 ⟨some (.ref (M + 11)), rfl⟩ _ _ _ _
      · refine tq_aload_n dX8_readCell_36 rfl ?_
        refine tm_gi (k9 := 8) dX8_readCell_37 rfl rfl ?_
        refine tq_iload_n dX8_readCell_40 rfl ?_
        refine tq_icmp_gt dX8_readCell_41 rfl ?_ ?_
        · exact wfm_readCell_11_j64 ⟨some (.ref (M + 11)), rfl⟩ _ _ _ _
        · refine tq_aload_n dX8_readCell_44 rfl ?_
          refine tq_bipush (v := 8) dX8_readCell_45 (by decide) ?_
          refine tq_aload_n dX8_readCell_47 rfl ?_
          refine tm_gi (k9 := 8) dX8_readCell_48 rfl rfl ?_
          refine tq_imul dX8_readCell_51 ?_
          refine tq_iload dX8_readCell_52 rfl ?_
          refine tq_iadd dX8_readCell_54 ?_
          refine tm_ild dX8_readCell_55 rfl (fun x55 => ?_)
          refine tq_if_lt dX8_readCell_56 rfl ?_ ?_
          · exact wfm_readCell_11_j64 ⟨some (.ref (M + 11)), rfl⟩ _ _ _ _
          · refine tq_aload_n dX8_readCell_59 rfl ?_
            refine tq_iconst (v := 3) dX8_readCell_60 (by decide) ?_
            refine tm_c1_V dX8_readCell_61 rfl rfl rfl (Nat.le_of_ble_eq_true rfl) (wfm_wrong (d := d + 2) _ _) (fun p61 => ?_)
            exact wfm_readCell_11_j64 ⟨some (.ref (M + 11)), rfl⟩ _ _ _ _
theorem wfm_readIron {G : ai_G} {d M : Nat} {h0 : ai_H} (s : mS) : ∀ r, fm_readIron s = some r → (PmV M h0) r (ai_call G (d + 5) 103 [.ref M] (mH M s h0)) := by
  refine tq_meth (P := (PmV M h0)) (d := (d + 4)) (Nat.le_of_ble_eq_true rfl) ?_
  show Tj G (d + 4) 103 (PmV M h0) (fm_readIron s) 0 [some (.ref M), none] [] (mH M s h0)
  unfold fm_readIron
  refine tq_aload_n dX8_readIron_0 rfl ?_
  refine tm_c0_V dX8_readIron_1 rfl rfl rfl (Nat.le_of_ble_eq_true rfl) (wfm_token (d := d + 2) _) (fun p1 => ?_)
  refine tq_aload_n dX8_readIron_4 rfl ?_
  refine tq_aload_n dX8_readIron_5 rfl ?_
  refine tm_ga (j := 11) dX8_readIron_6 rfl rfl ?_
  refine tq_iconst (v := 1) dX8_readIron_9 (by decide) ?_
  refine tq_aload_n dX8_readIron_10 rfl ?_
  refine tm_gi (k9 := 39) dX8_readIron_11 rfl rfl ?_
  refine tq_iconst (v := 1) dX8_readIron_14 (by decide) ?_
  refine tq_isub dX8_readIron_15 ?_
  refine tm_c3_I dX8_readIron_16 rfl rfl rfl (Nat.le_of_ble_eq_true rfl) (wfm_readCell_11 (d := d) _ _ _) (fun p16 => ?_)
  refine tq_istore_n (L' := [_, _]) dX8_readIron_19 (Nat.le_of_ble_eq_true rfl) rfl ?_
  refine tq_aload_n dX8_readIron_20 rfl ?_
  refine tm_gi (k9 := 2) dX8_readIron_21 rfl rfl ?_
  refine tq_if_le dX8_readIron_24 rfl ?_ ?_
  · refine tq_aload_n dX8_readIron_28 rfl ?_
    refine tm_ga (j := 11) dX8_readIron_29 rfl rfl ?_
    refine tq_iload_n dX8_readIron_32 rfl ?_
    refine tq_iconst (v := 1) dX8_readIron_33 (by decide) ?_
    refine tm_ist dX8_readIron_34 rfl (fun s34 => ?_)
    refine tq_aload_n dX8_readIron_35 rfl ?_
    refine tq_dup dX8_readIron_36 rfl ?_
    refine tm_gi (k9 := 41) dX8_readIron_37 rfl rfl ?_
    refine tq_iconst (v := 1) dX8_readIron_40 (by decide) ?_
    refine tq_iadd dX8_readIron_41 ?_
    refine tm_pi dX8_readIron_42 rfl rfl (fun s42 => ?_)
    exact tq_return dX8_readIron_45 rfl rfl
  · exact tq_return dX8_readIron_27 rfl rfl
theorem wfm_isOwn {G : ai_G} {d M : Nat} {h0 : ai_H} (s : mS) : ∀ r, fm_isOwn s = some r → (Pi (mH M s h0)) r (ai_call G (d + 1) 104 [.ref M] (mH M s h0)) := by
  refine tq_meth (P := (Pi (mH M s h0))) (d := d) (Nat.le_of_ble_eq_true rfl) ?_
  show Tj G d 104 (Pi (mH M s h0)) (fm_isOwn s) 0 [some (.ref M)] [] (mH M s h0)
  unfold fm_isOwn
  refine tq_aload_n dX8_isOwn_0 rfl ?_
  refine tm_gw dX8_isOwn_1 rfl rfl ?_
  refine tq_ldc2 (v := .long 512736126322) dX8_isOwn_4 rfl ?_
  refine tq_lcmp dX8_isOwn_7 ?_
  refine tq_if_eq dX8_isOwn_8 rfl ?_ ?_
  · refine tq_iconst (v := 1) dX8_isOwn_209 (by decide) ?_
    refine tq_goto dX8_isOwn_210 rfl ?_
    exact tq_ireturn dX8_isOwn_214 (by decide) rfl
  · refine tq_aload_n dX8_isOwn_11 rfl ?_
    refine tm_gw dX8_isOwn_12 rfl rfl ?_
    refine tq_ldc2 (v := .long 25209) dX8_isOwn_15 rfl ?_
    refine tq_lcmp dX8_isOwn_18 ?_
    refine tq_if_eq dX8_isOwn_19 rfl ?_ ?_
    · refine tq_iconst (v := 1) dX8_isOwn_209 (by decide) ?_
      refine tq_goto dX8_isOwn_210 rfl ?_
      exact tq_ireturn dX8_isOwn_214 (by decide) rfl
    · refine tq_aload_n dX8_isOwn_22 rfl ?_
      refine tm_gw dX8_isOwn_23 rfl rfl ?_
      refine tq_ldc2 (v := .long 27995157100326516) dX8_isOwn_26 rfl ?_
      refine tq_lcmp dX8_isOwn_29 ?_
      refine tq_if_eq dX8_isOwn_30 rfl ?_ ?_
      · refine tq_iconst (v := 1) dX8_isOwn_209 (by decide) ?_
        refine tq_goto dX8_isOwn_210 rfl ?_
        exact tq_ireturn dX8_isOwn_214 (by decide) rfl
      · refine tq_aload_n dX8_isOwn_33 rfl ?_
        refine tm_gw dX8_isOwn_34 rfl rfl ?_
        refine tq_ldc2 (v := .long 24948) dX8_isOwn_37 rfl ?_
        refine tq_lcmp dX8_isOwn_40 ?_
        refine tq_if_eq dX8_isOwn_41 rfl ?_ ?_
        · refine tq_iconst (v := 1) dX8_isOwn_209 (by decide) ?_
          refine tq_goto dX8_isOwn_210 rfl ?_
          exact tq_ireturn dX8_isOwn_214 (by decide) rfl
        · refine tq_aload_n dX8_isOwn_44 rfl ?_
          refine tm_gw dX8_isOwn_45 rfl rfl ?_
          refine tq_ldc2 (v := .long 1769107310) dX8_isOwn_48 rfl ?_
          refine tq_lcmp dX8_isOwn_51 ?_
          refine tq_if_eq dX8_isOwn_52 rfl ?_ ?_
          · refine tq_iconst (v := 1) dX8_isOwn_209 (by decide) ?_
            refine tq_goto dX8_isOwn_210 rfl ?_
            exact tq_ireturn dX8_isOwn_214 (by decide) rfl
          · refine tq_aload_n dX8_isOwn_55 rfl ?_
            refine tm_gw dX8_isOwn_56 rfl rfl ?_
            refine tq_ldc2 (v := .long 422775452260) dX8_isOwn_59 rfl ?_
            refine tq_lcmp dX8_isOwn_62 ?_
            refine tq_if_eq dX8_isOwn_63 rfl ?_ ?_
            · refine tq_iconst (v := 1) dX8_isOwn_209 (by decide) ?_
              refine tq_goto dX8_isOwn_210 rfl ?_
              exact tq_ireturn dX8_isOwn_214 (by decide) rfl
            · refine tq_aload_n dX8_isOwn_66 rfl ?_
              refine tm_gw dX8_isOwn_67 rfl rfl ?_
              refine tq_ldc2 (v := .long 2003395685) dX8_isOwn_70 rfl ?_
              refine tq_lcmp dX8_isOwn_73 ?_
              refine tq_if_eq dX8_isOwn_74 rfl ?_ ?_
              · refine tq_iconst (v := 1) dX8_isOwn_209 (by decide) ?_
                refine tq_goto dX8_isOwn_210 rfl ?_
                exact tq_ireturn dX8_isOwn_214 (by decide) rfl
              · refine tq_aload_n dX8_isOwn_77 rfl ?_
                refine tm_gw dX8_isOwn_78 rfl rfl ?_
                refine tq_ldc2 (v := .long 422607680115) dX8_isOwn_81 rfl ?_
                refine tq_lcmp dX8_isOwn_84 ?_
                refine tq_if_eq dX8_isOwn_85 rfl ?_ ?_
                · refine tq_iconst (v := 1) dX8_isOwn_209 (by decide) ?_
                  refine tq_goto dX8_isOwn_210 rfl ?_
                  exact tq_ireturn dX8_isOwn_214 (by decide) rfl
                · refine tq_aload_n dX8_isOwn_88 rfl ?_
                  refine tm_gw dX8_isOwn_89 rfl rfl ?_
                  refine tq_ldc2 (v := .long 1819238756) dX8_isOwn_92 rfl ?_
                  refine tq_lcmp dX8_isOwn_95 ?_
                  refine tq_if_eq dX8_isOwn_96 rfl ?_ ?_
                  · refine tq_iconst (v := 1) dX8_isOwn_209 (by decide) ?_
                    refine tq_goto dX8_isOwn_210 rfl ?_
                    exact tq_ireturn dX8_isOwn_214 (by decide) rfl
                  · refine tq_aload_n dX8_isOwn_99 rfl ?_
                    refine tm_gw dX8_isOwn_100 rfl rfl ?_
                    refine tq_ldc2 (v := .long 1751474548) dX8_isOwn_103 rfl ?_
                    refine tq_lcmp dX8_isOwn_106 ?_
                    refine tq_if_eq dX8_isOwn_107 rfl ?_ ?_
                    · refine tq_iconst (v := 1) dX8_isOwn_209 (by decide) ?_
                      refine tq_goto dX8_isOwn_210 rfl ?_
                      exact tq_ireturn dX8_isOwn_214 (by decide) rfl
                    · refine tq_aload_n dX8_isOwn_110 rfl ?_
                      refine tm_gw dX8_isOwn_111 rfl rfl ?_
                      refine tq_ldc2 (v := .long 439905906532) dX8_isOwn_114 rfl ?_
                      refine tq_lcmp dX8_isOwn_117 ?_
                      refine tq_if_eq dX8_isOwn_118 rfl ?_ ?_
                      · refine tq_iconst (v := 1) dX8_isOwn_209 (by decide) ?_
                        refine tq_goto dX8_isOwn_210 rfl ?_
                        exact tq_ireturn dX8_isOwn_214 (by decide) rfl
                      · refine tq_aload_n dX8_isOwn_121 rfl ?_
                        refine tm_gw dX8_isOwn_122 rfl rfl ?_
                        refine tq_ldc2 (v := .long 1685217655) dX8_isOwn_125 rfl ?_
                        refine tq_lcmp dX8_isOwn_128 ?_
                        refine tq_if_eq dX8_isOwn_129 rfl ?_ ?_
                        · refine tq_iconst (v := 1) dX8_isOwn_209 (by decide) ?_
                          refine tq_goto dX8_isOwn_210 rfl ?_
                          exact tq_ireturn dX8_isOwn_214 (by decide) rfl
                        · refine tq_aload_n dX8_isOwn_132 rfl ?_
                          refine tm_gw dX8_isOwn_133 rfl rfl ?_
                          refine tq_ldc2 (v := .long 7499639) dX8_isOwn_136 rfl ?_
                          refine tq_lcmp dX8_isOwn_139 ?_
                          refine tq_if_eq dX8_isOwn_140 rfl ?_ ?_
                          · refine tq_iconst (v := 1) dX8_isOwn_209 (by decide) ?_
                            refine tq_goto dX8_isOwn_210 rfl ?_
                            exact tq_ireturn dX8_isOwn_214 (by decide) rfl
                          · refine tq_aload_n dX8_isOwn_143 rfl ?_
                            refine tm_gw dX8_isOwn_144 rfl rfl ?_
                            refine tq_ldc2 (v := .long 109330212154734) dX8_isOwn_147 rfl ?_
                            refine tq_lcmp dX8_isOwn_150 ?_
                            refine tq_if_eq dX8_isOwn_151 rfl ?_ ?_
                            · refine tq_iconst (v := 1) dX8_isOwn_209 (by decide) ?_
                              refine tq_goto dX8_isOwn_210 rfl ?_
                              exact tq_ireturn dX8_isOwn_214 (by decide) rfl
                            · refine tq_aload_n dX8_isOwn_154 rfl ?_
                              refine tm_gw dX8_isOwn_155 rfl rfl ?_
                              refine tq_ldc2 (v := .long 32497657166128499) dX8_isOwn_158 rfl ?_
                              refine tq_lcmp dX8_isOwn_161 ?_
                              refine tq_if_eq dX8_isOwn_162 rfl ?_ ?_
                              · refine tq_iconst (v := 1) dX8_isOwn_209 (by decide) ?_
                                refine tq_goto dX8_isOwn_210 rfl ?_
                                exact tq_ireturn dX8_isOwn_214 (by decide) rfl
                              · refine tq_aload_n dX8_isOwn_165 rfl ?_
                                refine tm_gw dX8_isOwn_166 rfl rfl ?_
                                refine tq_ldc2 (v := .long 6844276) dX8_isOwn_169 rfl ?_
                                refine tq_lcmp dX8_isOwn_172 ?_
                                refine tq_if_eq dX8_isOwn_173 rfl ?_ ?_
                                · refine tq_iconst (v := 1) dX8_isOwn_209 (by decide) ?_
                                  refine tq_goto dX8_isOwn_210 rfl ?_
                                  exact tq_ireturn dX8_isOwn_214 (by decide) rfl
                                · refine tq_aload_n dX8_isOwn_176 rfl ?_
                                  refine tm_gw dX8_isOwn_177 rfl rfl ?_
                                  refine tq_ldc2 (v := .long 6385252) dX8_isOwn_180 rfl ?_
                                  refine tq_lcmp dX8_isOwn_183 ?_
                                  refine tq_if_eq dX8_isOwn_184 rfl ?_ ?_
                                  · refine tq_iconst (v := 1) dX8_isOwn_209 (by decide) ?_
                                    refine tq_goto dX8_isOwn_210 rfl ?_
                                    exact tq_ireturn dX8_isOwn_214 (by decide) rfl
                                  · refine tq_aload_n dX8_isOwn_187 rfl ?_
                                    refine tm_gw dX8_isOwn_188 rfl rfl ?_
                                    refine tq_ldc2 (v := .long 28530) dX8_isOwn_191 rfl ?_
                                    refine tq_lcmp dX8_isOwn_194 ?_
                                    refine tq_if_eq dX8_isOwn_195 rfl ?_ ?_
                                    · refine tq_iconst (v := 1) dX8_isOwn_209 (by decide) ?_
                                      refine tq_goto dX8_isOwn_210 rfl ?_
                                      exact tq_ireturn dX8_isOwn_214 (by decide) rfl
                                    · refine tq_aload_n dX8_isOwn_198 rfl ?_
                                      refine tm_gw dX8_isOwn_199 rfl rfl ?_
                                      refine tq_ldc2 (v := .long 7237492) dX8_isOwn_202 rfl ?_
                                      refine tq_lcmp dX8_isOwn_205 ?_
                                      refine tq_if_ne dX8_isOwn_206 rfl ?_ ?_
                                      · refine tq_iconst (v := 0) dX8_isOwn_213 (by decide) ?_
                                        exact tq_ireturn dX8_isOwn_214 (by decide) rfl
                                      · refine tq_iconst (v := 1) dX8_isOwn_209 (by decide) ?_
                                        refine tq_goto dX8_isOwn_210 rfl ?_
                                        exact tq_ireturn dX8_isOwn_214 (by decide) rfl
theorem wfm_isName {G : ai_G} {d M : Nat} {h0 : ai_H} (s : mS) : ∀ r, fm_isName s = some r → (Pi (mH M s h0)) r (ai_call G (d + 2) 105 [.ref M] (mH M s h0)) := by
  refine tq_meth (P := (Pi (mH M s h0))) (d := (d + 1)) (Nat.le_of_ble_eq_true rfl) ?_
  show Tj G (d + 1) 105 (Pi (mH M s h0)) (fm_isName s) 0 [some (.ref M)] [] (mH M s h0)
  unfold fm_isName
  refine tq_aload_n dX8_isName_0 rfl ?_
  refine tm_gi (k9 := 6) dX8_isName_1 rfl rfl ?_
  refine tq_iconst (v := 1) dX8_isName_4 (by decide) ?_
  refine tq_icmp_ne dX8_isName_5 rfl ?_ ?_
  · refine tq_iconst (v := 0) dX8_isName_19 (by decide) ?_
    exact tq_ireturn dX8_isName_20 (by decide) rfl
  · refine tq_aload_n dX8_isName_8 rfl ?_
    refine tm_c0_i dX8_isName_9 rfl rfl rfl (Nat.le_of_ble_eq_true rfl) (wfm_isOwn (d := d) _) (fun p9 => ?_)
    refine tq_if_ne dX8_isName_12 rfl ?_ ?_
    · refine tq_iconst (v := 0) dX8_isName_19 (by decide) ?_
      exact tq_ireturn dX8_isName_20 (by decide) rfl
    · refine tq_iconst (v := 1) dX8_isName_15 (by decide) ?_
      refine tq_goto dX8_isName_16 rfl ?_
      exact tq_ireturn dX8_isName_20 (by decide) rfl
abbrev Pfm_newName_b18 (G : ai_G) (d M : Nat) (h0 : ai_H) (v1 : Int32) (v2 : Int32) : (Int32 × mS) ⊕ mS → Option ai_R → Prop := Sum.elim (fun (q : Int32 × mS) run => ∃ J : Unit, run = ai_run G (d + 2) 106 18 [some (.ref M), some (.int v1), some (.int v2), some (.int q.1)] [] (mH M q.2 h0)) (fun (q : mS) run => ∃ J : JV, run = ai_run G (d + 2) 106 57 [some (.ref M), some (.int v1), some (.int v2), J.1] [] (mH M q h0))
theorem Bfm_newName_b18 {G : ai_G} {d M : Nat} {h0 : ai_H} (v1 : Int32) (v2 : Int32) (b0 : Int32) (b1 : mS) (J : Unit) : Tj G (d + 2) 106 (Pfm_newName_b18 G d M h0 v1 v2) (some (.inl (b0, b1))) 18 [some (.ref M), some (.int v1), some (.int v2), some (.int b0)] [] (mH M b1 h0) := tq_back J rfl rfl
theorem Efm_newName_b18 {G : ai_G} {d M : Nat} {h0 : ai_H} (v1 : Int32) (v2 : Int32) (b0 : mS) (J : JV) : Tj G (d + 2) 106 (Pfm_newName_b18 G d M h0 v1 v2) (some (.inr b0)) 57 [some (.ref M), some (.int v1), some (.int v2), J.1] [] (mH M b0 h0) := tq_exit J rfl rfl
theorem wfm_newName_b18 {G : ai_G} {d M : Nat} {h0 : ai_H} (v1 : Int32) (v2 : Int32) (q : Int32 × mS) (J : Unit) : Tj G (d + 2) 106 (Pfm_newName_b18 G d M h0 v1 v2) (fm_newName_b18 v1 v2 q) 18 [some (.ref M), some (.int v1), some (.int v2), some (.int q.1)] [] (mH M q.2 h0) := by
  unfold fm_newName_b18
  refine tq_iload_n dX8_newName_18 rfl ?_
  refine tq_iload_n dX8_newName_19 rfl ?_
  refine tq_icmp_ge dX8_newName_20 rfl ?_ ?_
  · exact Efm_newName_b18 _ _ _ ⟨some (.int q.1), rfl⟩
  · refine tq_aload_n dX8_newName_23 rfl ?_
    refine tm_gi (k9 := 2) dX8_newName_24 rfl rfl ?_
    refine tq_if_ne dX8_newName_27 rfl ?_ ?_
    · exact Efm_newName_b18 _ _ _ ⟨some (.int q.1), rfl⟩
    · refine tq_aload_n dX8_newName_30 rfl ?_
      refine tm_ga (j := 2) dX8_newName_31 rfl rfl ?_
      refine tq_iload_n dX8_newName_34 rfl ?_
      refine tq_iload_n dX8_newName_35 rfl ?_
      refine tq_iadd dX8_newName_36 ?_
      refine tm_lld dX8_newName_37 (fun x37 => ?_)
      refine tq_aload_n dX8_newName_38 rfl ?_
      refine tm_gw dX8_newName_39 rfl rfl ?_
      refine tq_lcmp dX8_newName_42 ?_
      refine tq_if_ne dX8_newName_43 rfl ?_ ?_
      · refine tq_iinc (v := (q.1 + 1)) (L' := [_, _, _, _]) dX8_newName_51 rfl (Nat.le_of_ble_eq_true rfl) rfl rfl ?_
        refine tq_goto dX8_newName_54 rfl ?_
        exact Bfm_newName_b18 _ _ _ _ ()
      · refine tq_aload_n dX8_newName_46 rfl ?_
        refine tq_iconst (v := 3) dX8_newName_47 (by decide) ?_
        refine tm_c1_V dX8_newName_48 rfl rfl rfl (Nat.le_of_ble_eq_true rfl) (wfm_wrong (d := d + 1) _ _) (fun p48 => ?_)
        refine tq_iinc (v := (q.1 + 1)) (L' := [_, _, _, _]) dX8_newName_51 rfl (Nat.le_of_ble_eq_true rfl) rfl rfl ?_
        refine tq_goto dX8_newName_54 rfl ?_
        exact Bfm_newName_b18 _ _ _ _ ()
theorem Sfm_newName_b18 {G : ai_G} {d M : Nat} {h0 : ai_H} {α : Type} {P : α → Option ai_R → Prop} (v1 : Int32) (v2 : Int32) (b0 : Int32) (b1 : mS) (J : Unit) {r : mS → Option α} (kk : ∀ (q : mS) (J : JV), Tj G (d + 2) 106 P (r q) 57 [some (.ref M), some (.int v1), some (.int v2), J.1] [] (mH M q h0)) : Tj G (d + 2) 106 P ((lp (fm_newName_b18 v1 v2) (b0, b1)).bind r) 18 [some (.ref M), some (.int v1), some (.int v2), some (.int b0)] [] (mH M b1 h0) := tq_lp1 (J := J) (fun q J => wfm_newName_b18 v1 v2 q J) rfl rfl kk
theorem wfm_newName_j57 {G : ai_G} {d M : Nat} {h0 : ai_H} (j3 : JV)   (s : mS) (v1 : Int32) (v2 : Int32): Tj G (d + 2) 106 (PmV M h0) (fm_newName_j57 s v1 v2) 57 [some (.ref M), some (.int v1), some (.int v2), j3.1] [] (mH M s h0) := by
  unfold fm_newName_j57
  refine tq_aload_n dX8_newName_57 rfl ?_
  refine tm_gi (k9 := 2) dX8_newName_58 rfl rfl ?_
  refine tq_if_le dX8_newName_61 rfl ?_ ?_
  · refine tq_aload_n dX8_newName_65 rfl ?_
    refine tm_ga (j := 2) dX8_newName_66 rfl rfl ?_
    refine tq_iload_n dX8_newName_69 rfl ?_
    refine tq_iload_n dX8_newName_70 rfl ?_
    refine tq_iadd dX8_newName_71 ?_
    refine tq_aload_n dX8_newName_72 rfl ?_
    refine tm_gw dX8_newName_73 rfl rfl ?_
    refine tm_lst dX8_newName_76 (fun s76 => ?_)
    refine tq_aload_n dX8_newName_77 rfl ?_
    refine tm_c0_V dX8_newName_78 rfl rfl rfl (Nat.le_of_ble_eq_true rfl) (wfm_token (d := d) _) (fun p78 => ?_)
    exact tq_return dX8_newName_81 rfl rfl
  · exact tq_return dX8_newName_64 rfl rfl
theorem wfm_newName {G : ai_G} {d M : Nat} {h0 : ai_H} (s : mS) (v1 : Int32) (v2 : Int32) : ∀ r, fm_newName s v1 v2 = some r → (PmV M h0) r (ai_call G (d + 3) 106 [.ref M, .int v1, .int v2] (mH M s h0)) := by
  refine tq_meth (P := (PmV M h0)) (d := (d + 2)) (Nat.le_of_ble_eq_true rfl) ?_
  show Tj G (d + 2) 106 (PmV M h0) (fm_newName s v1 v2) 0 [some (.ref M), some (.int v1), some (.int v2), none] [] (mH M s h0)
  unfold fm_newName
  refine tq_aload_n dX8_newName_0 rfl ?_
  refine tm_c0_V dX8_newName_1 rfl rfl rfl (Nat.le_of_ble_eq_true rfl) (wfm_token (d := d) _) (fun p1 => ?_)
  refine tq_aload_n dX8_newName_4 rfl ?_
  refine tm_c0_i dX8_newName_5 rfl rfl rfl (Nat.le_of_ble_eq_true rfl) (wfm_isName (d := d) _) (fun p5 => ?_)
  refine tq_if_ne dX8_newName_8 rfl ?_ ?_
  · refine tq_iconst (v := 0) dX8_newName_16 (by decide) ?_
    refine tq_istore_n (L' := [_, _, _, _]) dX8_newName_17 (Nat.le_of_ble_eq_true rfl) rfl ?_
    refine Sfm_newName_b18 _ _ _ _ () (fun q18 J18 => ?_)
    exact wfm_newName_j57 J18 _ _ _
  · refine tq_aload_n dX8_newName_11 rfl ?_
    refine tq_iconst (v := 2) dX8_newName_12 (by decide) ?_
    refine tm_c1_V dX8_newName_13 rfl rfl rfl (Nat.le_of_ble_eq_true rfl) (wfm_wrong (d := d + 1) _ _) (fun p13 => ?_)
    refine tq_iconst (v := 0) dX8_newName_16 (by decide) ?_
    refine tq_istore_n (L' := [_, _, _, _]) dX8_newName_17 (Nat.le_of_ble_eq_true rfl) rfl ?_
    refine Sfm_newName_b18 _ _ _ _ () (fun q18 J18 => ?_)
    exact wfm_newName_j57 J18 _ _ _

/-! WALKS of the model: the interpreter does what the functions say (printed by tools/decm.py) -/
set_option maxRecDepth 100000
theorem wfm_readLine_j235 {G : ai_G} {d M : Nat} {h0 : ai_H}    (s : mS): Tj G (d + 5) 122 (PmV M h0) (fm_readLine_j235 s) 235 [some (.ref M)] [] (mH M s h0) := by
  unfold fm_readLine_j235
  refine tq_aload_n dX8_readLine_235 rfl ?_
  refine tq_iconst (v := 1) dX8_readLine_236 (by decide) ?_
  refine tm_pz dX8_readLine_237 rfl rfl (by decide) (fun s237 => ?_)
  refine tq_aload_n dX8_readLine_240 rfl ?_
  refine tm_gi (k9 := 2) dX8_readLine_241 rfl rfl ?_
  refine tq_if_ne dX8_readLine_244 rfl ?_ ?_
  · refine tq_aload_n dX8_readLine_261 rfl ?_
    refine tm_gi (k9 := 2) dX8_readLine_262 rfl rfl ?_
    refine tq_if_ne dX8_readLine_265 rfl ?_ ?_
    · exact tq_return dX8_readLine_272 rfl rfl
    · refine tq_aload_n dX8_readLine_268 rfl ?_
      refine tm_c0_V dX8_readLine_269 rfl rfl rfl (Nat.le_of_ble_eq_true rfl) (wfm_token (d := d + 3) _) (fun p269 => ?_)
      exact tq_return dX8_readLine_272 rfl rfl
  · refine tq_aload_n dX8_readLine_247 rfl ?_
    refine tm_gi (k9 := 6) dX8_readLine_248 rfl rfl ?_
    refine tq_bipush (v := 59) dX8_readLine_251 (by decide) ?_
    refine tq_icmp_eq dX8_readLine_253 rfl ?_ ?_
    · refine tq_aload_n dX8_readLine_261 rfl ?_
      refine tm_gi (k9 := 2) dX8_readLine_262 rfl rfl ?_
      refine tq_if_ne dX8_readLine_265 rfl ?_ ?_
      · exact tq_return dX8_readLine_272 rfl rfl
      · refine tq_aload_n dX8_readLine_268 rfl ?_
        refine tm_c0_V dX8_readLine_269 rfl rfl rfl (Nat.le_of_ble_eq_true rfl) (wfm_token (d := d + 3) _) (fun p269 => ?_)
        exact tq_return dX8_readLine_272 rfl rfl
    · refine tq_aload_n dX8_readLine_256 rfl ?_
      refine tq_iconst (v := 2) dX8_readLine_257 (by decide) ?_
      refine tm_c1_V dX8_readLine_258 rfl rfl rfl (Nat.le_of_ble_eq_true rfl) (wfm_wrong (d := d + 4) _ _) (fun p258 => ?_)
      refine tq_aload_n dX8_readLine_261 rfl ?_
      refine tm_gi (k9 := 2) dX8_readLine_262 rfl rfl ?_
      refine tq_if_ne dX8_readLine_265 rfl ?_ ?_
      · exact tq_return dX8_readLine_272 rfl rfl
      · refine tq_aload_n dX8_readLine_268 rfl ?_
        refine tm_c0_V dX8_readLine_269 rfl rfl rfl (Nat.le_of_ble_eq_true rfl) (wfm_token (d := d + 3) _) (fun p269 => ?_)
        exact tq_return dX8_readLine_272 rfl rfl
theorem wfm_readLine_j230 {G : ai_G} {d M : Nat} {h0 : ai_H}    (s : mS): Tj G (d + 5) 122 (PmV M h0) (fm_readLine_j230 s) 230 [some (.ref M)] [] (mH M s h0) := by
  unfold fm_readLine_j230
  refine tq_aload_n dX8_readLine_230 rfl ?_
  refine tq_iconst (v := 2) dX8_readLine_231 (by decide) ?_
  refine tm_c1_V dX8_readLine_232 rfl rfl rfl (Nat.le_of_ble_eq_true rfl) (wfm_wrong (d := d + 4) _ _) (fun p232 => ?_)
  exact wfm_readLine_j235 _
theorem wfm_readLine_j190 {G : ai_G} {d M : Nat} {h0 : ai_H}    (s : mS): Tj G (d + 5) 122 (PmV M h0) (fm_readLine_j190 s) 190 [some (.ref M)] [] (mH M s h0) := by
  unfold fm_readLine_j190
  refine tq_aload_n dX8_readLine_190 rfl ?_
  refine tq_ldc2 (v := .long 1685217655) dX8_readLine_191 rfl ?_
  refine tm_c1_i dX8_readLine_194 rfl rfl rfl (Nat.le_of_ble_eq_true rfl) (wfm_isWord (d := d + 4) _ _) (fun p194 => ?_)
  refine tq_if_eq dX8_readLine_197 rfl ?_ ?_
  · exact wfm_readLine_j230 _
  · refine tq_aload_n dX8_readLine_200 rfl ?_
    refine tm_gi (k9 := 53) dX8_readLine_201 rfl rfl ?_
    refine tq_if_ne dX8_readLine_204 rfl ?_ ?_
    · exact wfm_readLine_j230 _
    · refine tq_aload_n dX8_readLine_207 rfl ?_
      refine tq_iconst (v := 1) dX8_readLine_208 (by decide) ?_
      refine tm_pz dX8_readLine_209 rfl rfl (by decide) (fun s209 => ?_)
      refine tq_aload_n dX8_readLine_212 rfl ?_
      refine tq_aload_n dX8_readLine_213 rfl ?_
      refine tq_ldc2 (v := .long 1685217655) dX8_readLine_214 rfl ?_
      refine tq_iconst (v := 0) dX8_readLine_217 (by decide) ?_
      refine tq_sipush (v := 999) dX8_readLine_218 (by decide) ?_
      refine tm_c3_I dX8_readLine_221 rfl rfl rfl (Nat.le_of_ble_eq_true rfl) (wfm_told (d := d + 1) _ _ _ _) (fun p221 => ?_)
      refine tm_pi dX8_readLine_224 rfl rfl (fun s224 => ?_)
      refine tq_goto dX8_readLine_227 rfl ?_
      exact wfm_readLine_j235 _
theorem wfm_readLine_j151 {G : ai_G} {d M : Nat} {h0 : ai_H}    (s : mS): Tj G (d + 5) 122 (PmV M h0) (fm_readLine_j151 s) 151 [some (.ref M)] [] (mH M s h0) := by
  unfold fm_readLine_j151
  refine tq_aload_n dX8_readLine_151 rfl ?_
  refine tq_ldc2 (v := .long 439905906532) dX8_readLine_152 rfl ?_
  refine tm_c1_i dX8_readLine_155 rfl rfl rfl (Nat.le_of_ble_eq_true rfl) (wfm_isWord (d := d + 4) _ _) (fun p155 => ?_)
  refine tq_if_eq dX8_readLine_158 rfl ?_ ?_
  · exact wfm_readLine_j190 _
  · refine tq_aload_n dX8_readLine_161 rfl ?_
    refine tm_gi (k9 := 52) dX8_readLine_162 rfl rfl ?_
    refine tq_if_ne dX8_readLine_165 rfl ?_ ?_
    · exact wfm_readLine_j190 _
    · refine tq_aload_n dX8_readLine_168 rfl ?_
      refine tq_iconst (v := 1) dX8_readLine_169 (by decide) ?_
      refine tm_pz dX8_readLine_170 rfl rfl (by decide) (fun s170 => ?_)
      refine tq_aload_n dX8_readLine_173 rfl ?_
      refine tq_aload_n dX8_readLine_174 rfl ?_
      refine tq_ldc2 (v := .long 439905906532) dX8_readLine_175 rfl ?_
      refine tq_iconst (v := 0) dX8_readLine_178 (by decide) ?_
      refine tq_bipush (v := 100) dX8_readLine_179 (by decide) ?_
      refine tm_c3_I dX8_readLine_181 rfl rfl rfl (Nat.le_of_ble_eq_true rfl) (wfm_told (d := d + 1) _ _ _ _) (fun p181 => ?_)
      refine tm_pi dX8_readLine_184 rfl rfl (fun s184 => ?_)
      refine tq_goto dX8_readLine_187 rfl ?_
      exact wfm_readLine_j235 _
theorem wfm_readLine_j127 {G : ai_G} {d M : Nat} {h0 : ai_H}    (s : mS): Tj G (d + 5) 122 (PmV M h0) (fm_readLine_j127 s) 127 [some (.ref M)] [] (mH M s h0) := by
  unfold fm_readLine_j127
  refine tq_aload_n dX8_readLine_127 rfl ?_
  refine tq_ldc2 (v := .long 1751474548) dX8_readLine_128 rfl ?_
  refine tm_c1_i dX8_readLine_131 rfl rfl rfl (Nat.le_of_ble_eq_true rfl) (wfm_isWord (d := d + 4) _ _) (fun p131 => ?_)
  refine tq_if_eq dX8_readLine_134 rfl ?_ ?_
  · exact wfm_readLine_j151 _
  · refine tq_aload_n dX8_readLine_137 rfl ?_
    refine tm_gi (k9 := 24) dX8_readLine_138 rfl rfl ?_
    refine tq_if_ne dX8_readLine_141 rfl ?_ ?_
    · exact wfm_readLine_j151 _
    · refine tq_aload_n dX8_readLine_144 rfl ?_
      refine tm_c0_V dX8_readLine_145 rfl rfl rfl (Nat.le_of_ble_eq_true rfl) (wfm_formula (d := d) _) (fun p145 => ?_)
      refine tq_goto dX8_readLine_148 rfl ?_
      exact wfm_readLine_j235 _
theorem wfm_readLine_j101 {G : ai_G} {d M : Nat} {h0 : ai_H}    (s : mS): Tj G (d + 5) 122 (PmV M h0) (fm_readLine_j101 s) 101 [some (.ref M)] [] (mH M s h0) := by
  unfold fm_readLine_j101
  refine tq_aload_n dX8_readLine_101 rfl ?_
  refine tq_ldc2 (v := .long 1819238756) dX8_readLine_102 rfl ?_
  refine tm_c1_i dX8_readLine_105 rfl rfl rfl (Nat.le_of_ble_eq_true rfl) (wfm_isWord (d := d + 4) _ _) (fun p105 => ?_)
  refine tq_if_eq dX8_readLine_108 rfl ?_ ?_
  · exact wfm_readLine_j127 _
  · refine tq_aload_n dX8_readLine_111 rfl ?_
    refine tm_gi (k9 := 43) dX8_readLine_112 rfl rfl ?_
    refine tq_bipush (v := 7) dX8_readLine_115 (by decide) ?_
    refine tq_icmp_ge dX8_readLine_117 rfl ?_ ?_
    · exact wfm_readLine_j127 _
    · refine tq_aload_n dX8_readLine_120 rfl ?_
      refine tm_c0_V dX8_readLine_121 rfl rfl rfl (Nat.le_of_ble_eq_true rfl) (wfm_readLoad (d := d) _) (fun p121 => ?_)
      refine tq_goto dX8_readLine_124 rfl ?_
      exact wfm_readLine_j235 _
theorem wfm_readLine_j76 {G : ai_G} {d M : Nat} {h0 : ai_H}    (s : mS): Tj G (d + 5) 122 (PmV M h0) (fm_readLine_j76 s) 76 [some (.ref M)] [] (mH M s h0) := by
  unfold fm_readLine_j76
  refine tq_aload_n dX8_readLine_76 rfl ?_
  refine tq_ldc2 (v := .long 422775452260) dX8_readLine_77 rfl ?_
  refine tm_c1_i dX8_readLine_80 rfl rfl rfl (Nat.le_of_ble_eq_true rfl) (wfm_isWord (d := d + 4) _ _) (fun p80 => ?_)
  refine tq_if_eq dX8_readLine_83 rfl ?_ ?_
  · exact wfm_readLine_j101 _
  · refine tq_aload_n dX8_readLine_86 rfl ?_
    refine tm_gi (k9 := 42) dX8_readLine_87 rfl rfl ?_
    refine tq_iconst (v := 4) dX8_readLine_90 (by decide) ?_
    refine tq_icmp_ge dX8_readLine_91 rfl ?_ ?_
    · exact wfm_readLine_j101 _
    · refine tq_aload_n dX8_readLine_94 rfl ?_
      refine tm_c0_V dX8_readLine_95 rfl rfl rfl (Nat.le_of_ble_eq_true rfl) (wfm_readBoard (d := d) _) (fun p95 => ?_)
      refine tq_goto dX8_readLine_98 rfl ?_
      exact wfm_readLine_j235 _
theorem wfm_readLine_j50 {G : ai_G} {d M : Nat} {h0 : ai_H}    (s : mS): Tj G (d + 5) 122 (PmV M h0) (fm_readLine_j50 s) 50 [some (.ref M)] [] (mH M s h0) := by
  unfold fm_readLine_j50
  refine tq_aload_n dX8_readLine_50 rfl ?_
  refine tq_ldc2 (v := .long 1769107310) dX8_readLine_51 rfl ?_
  refine tm_c1_i dX8_readLine_54 rfl rfl rfl (Nat.le_of_ble_eq_true rfl) (wfm_isWord (d := d + 4) _ _) (fun p54 => ?_)
  refine tq_if_eq dX8_readLine_57 rfl ?_ ?_
  · exact wfm_readLine_j76 _
  · refine tq_aload_n dX8_readLine_60 rfl ?_
    refine tm_gi (k9 := 41) dX8_readLine_61 rfl rfl ?_
    refine tq_bipush (v := 6) dX8_readLine_64 (by decide) ?_
    refine tq_icmp_ge dX8_readLine_66 rfl ?_ ?_
    · exact wfm_readLine_j76 _
    · refine tq_aload_n dX8_readLine_69 rfl ?_
      refine tm_c0_V dX8_readLine_70 rfl rfl rfl (Nat.le_of_ble_eq_true rfl) (wfm_readIron (d := d) _) (fun p70 => ?_)
      refine tq_goto dX8_readLine_73 rfl ?_
      exact wfm_readLine_j235 _
theorem wfm_readLine_j24 {G : ai_G} {d M : Nat} {h0 : ai_H}    (s : mS): Tj G (d + 5) 122 (PmV M h0) (fm_readLine_j24 s) 24 [some (.ref M)] [] (mH M s h0) := by
  unfold fm_readLine_j24
  refine tq_aload_n dX8_readLine_24 rfl ?_
  refine tq_ldc2 (v := .long 27995157100326516) dX8_readLine_25 rfl ?_
  refine tm_c1_i dX8_readLine_28 rfl rfl rfl (Nat.le_of_ble_eq_true rfl) (wfm_isWord (d := d + 4) _ _) (fun p28 => ?_)
  refine tq_if_eq dX8_readLine_31 rfl ?_ ?_
  · exact wfm_readLine_j50 _
  · refine tq_aload_n dX8_readLine_34 rfl ?_
    refine tm_gi (k9 := 40) dX8_readLine_35 rfl rfl ?_
    refine tq_bipush (v := 16) dX8_readLine_38 (by decide) ?_
    refine tq_icmp_ge dX8_readLine_40 rfl ?_ ?_
    · exact wfm_readLine_j50 _
    · refine tq_aload_n dX8_readLine_43 rfl ?_
      refine tm_c0_V dX8_readLine_44 rfl rfl rfl (Nat.le_of_ble_eq_true rfl) (wfm_readCurrent (d := d) _) (fun p44 => ?_)
      refine tq_goto dX8_readLine_47 rfl ?_
      exact wfm_readLine_j235 _
theorem wfm_readLine {G : ai_G} {d M : Nat} {h0 : ai_H} (s : mS) : ∀ r, fm_readLine s = some r → (PmV M h0) r (ai_call G (d + 6) 122 [.ref M] (mH M s h0)) := by
  refine tq_meth (P := (PmV M h0)) (d := (d + 5)) (Nat.le_of_ble_eq_true rfl) ?_
  show Tj G (d + 5) 122 (PmV M h0) (fm_readLine s) 0 [some (.ref M)] [] (mH M s h0)
  unfold fm_readLine
  refine tq_aload_n dX8_readLine_0 rfl ?_
  refine tq_ldc2 (v := .long 512736126322) dX8_readLine_1 rfl ?_
  refine tm_c1_i dX8_readLine_4 rfl rfl rfl (Nat.le_of_ble_eq_true rfl) (wfm_isWord (d := d + 4) _ _) (fun p4 => ?_)
  refine tq_if_eq dX8_readLine_7 rfl ?_ ?_
  · exact wfm_readLine_j24 _
  · refine tq_aload_n dX8_readLine_10 rfl ?_
    refine tm_gi (k9 := 51) dX8_readLine_11 rfl rfl ?_
    refine tq_if_ne dX8_readLine_14 rfl ?_ ?_
    · exact wfm_readLine_j24 _
    · refine tq_aload_n dX8_readLine_17 rfl ?_
      refine tm_c0_V dX8_readLine_18 rfl rfl rfl (Nat.le_of_ble_eq_true rfl) (wfm_readWater (d := d) _) (fun p18 => ?_)
      refine tq_goto dX8_readLine_21 rfl ?_
      exact wfm_readLine_j235 _
abbrev Pfm_readAll_b97 (G : ai_G) (d M : Nat) (h0 : ai_H)  : (Int32 × mS) ⊕ mS → Option ai_R → Prop := Sum.elim (fun (q : Int32 × mS) run => ∃ J : Unit, run = ai_run G (d + 6) 123 97 [some (.ref M), some (.int q.1)] [] (mH M q.2 h0)) (fun (q : mS) run => ∃ J : JV, run = ai_run G (d + 6) 123 123 [some (.ref M), J.1] [] (mH M q h0))
theorem Bfm_readAll_b97 {G : ai_G} {d M : Nat} {h0 : ai_H}  (b0 : Int32) (b1 : mS) (J : Unit) : Tj G (d + 6) 123 (Pfm_readAll_b97 G d M h0) (some (.inl (b0, b1))) 97 [some (.ref M), some (.int b0)] [] (mH M b1 h0) := tq_back J rfl rfl
theorem Efm_readAll_b97 {G : ai_G} {d M : Nat} {h0 : ai_H}  (b0 : mS) (J : JV) : Tj G (d + 6) 123 (Pfm_readAll_b97 G d M h0) (some (.inr b0)) 123 [some (.ref M), J.1] [] (mH M b0 h0) := tq_exit J rfl rfl
theorem wfm_readAll_b97 {G : ai_G} {d M : Nat} {h0 : ai_H}  (q : Int32 × mS) (J : Unit) : Tj G (d + 6) 123 (Pfm_readAll_b97 G d M h0) (fm_readAll_b97 q) 97 [some (.ref M), some (.int q.1)] [] (mH M q.2 h0) := by
  unfold fm_readAll_b97
  refine tq_iload_n dX8_readAll_97 rfl ?_
  refine tq_bipush (v := 56) dX8_readAll_98 (by decide) ?_
  refine tq_icmp_ge dX8_readAll_100 rfl ?_ ?_
  · exact Efm_readAll_b97 _ ⟨some (.int q.1), rfl⟩
  · refine tq_aload_n dX8_readAll_103 rfl ?_
    refine tm_ga (j := 10) dX8_readAll_104 rfl rfl ?_
    refine tq_iload_n dX8_readAll_107 rfl ?_
    refine tq_iconst (v := (-1)) dX8_readAll_108 (by decide) ?_
    refine tm_ist dX8_readAll_109 rfl (fun s109 => ?_)
    refine tq_aload_n dX8_readAll_110 rfl ?_
    refine tm_ga (j := 11) dX8_readAll_111 rfl rfl ?_
    refine tq_iload_n dX8_readAll_114 rfl ?_
    refine tq_iconst (v := (-1)) dX8_readAll_115 (by decide) ?_
    refine tm_ist dX8_readAll_116 rfl (fun s116 => ?_)
    refine tq_iinc (v := (q.1 + 1)) (L' := [_, _]) dX8_readAll_117 rfl (Nat.le_of_ble_eq_true rfl) rfl rfl ?_
    refine tq_goto dX8_readAll_120 rfl ?_
    exact Bfm_readAll_b97 _ _ ()
theorem Sfm_readAll_b97 {G : ai_G} {d M : Nat} {h0 : ai_H} {α : Type} {P : α → Option ai_R → Prop}  (b0 : Int32) (b1 : mS) (J : Unit) {r : mS → Option α} (kk : ∀ (q : mS) (J : JV), Tj G (d + 6) 123 P (r q) 123 [some (.ref M), J.1] [] (mH M q h0)) : Tj G (d + 6) 123 P ((lp fm_readAll_b97 (b0, b1)).bind r) 97 [some (.ref M), some (.int b0)] [] (mH M b1 h0) := tq_lp1 (J := J) (fun q J => wfm_readAll_b97  q J) rfl rfl kk
abbrev Pfm_readAll_b127 (G : ai_G) (d M : Nat) (h0 : ai_H)  : mS ⊕ mS → Option ai_R → Prop := Sum.elim (fun (q : mS) run => ∃ J : JV, run = ai_run G (d + 6) 123 127 [some (.ref M), J.1] [] (mH M q h0)) (fun (q : mS) run => ∃ J : JV × JV, run = ai_run G (d + 6) 123 148 [J.1.1, J.2.1] [] (mH M q h0))
theorem Bfm_readAll_b127 {G : ai_G} {d M : Nat} {h0 : ai_H}  (b0 : mS) (J : JV) : Tj G (d + 6) 123 (Pfm_readAll_b127 G d M h0) (some (.inl b0)) 127 [some (.ref M), J.1] [] (mH M b0 h0) := tq_back J rfl rfl
theorem Efm_readAll_b127 {G : ai_G} {d M : Nat} {h0 : ai_H}  (b0 : mS) (J : JV × JV) : Tj G (d + 6) 123 (Pfm_readAll_b127 G d M h0) (some (.inr b0)) 148 [J.1.1, J.2.1] [] (mH M b0 h0) := tq_exit J rfl rfl
theorem wfm_readAll_b127 {G : ai_G} {d M : Nat} {h0 : ai_H}  (q : mS) (J : JV) : Tj G (d + 6) 123 (Pfm_readAll_b127 G d M h0) (fm_readAll_b127 q) 127 [some (.ref M), J.1] [] (mH M q h0) := by
  unfold fm_readAll_b127
  refine tq_aload_n dX8_readAll_127 rfl ?_
  refine tm_gi (k9 := 2) dX8_readAll_128 rfl rfl ?_
  refine tq_if_ne dX8_readAll_131 rfl ?_ ?_
  · exact Efm_readAll_b127 _ (⟨some (.ref M), rfl⟩, J)
  · refine tq_aload_n dX8_readAll_134 rfl ?_
    refine tm_gi (k9 := 6) dX8_readAll_135 rfl rfl ?_
    refine tq_if_eq dX8_readAll_138 rfl ?_ ?_
    · exact Efm_readAll_b127 _ (⟨some (.ref M), rfl⟩, J)
    · refine tq_aload_n dX8_readAll_141 rfl ?_
      refine tm_c0_V dX8_readAll_142 rfl rfl rfl (Nat.le_of_ble_eq_true rfl) (wfm_readLine (d := d) _) (fun p142 => ?_)
      refine tq_goto dX8_readAll_145 rfl ?_
      exact Bfm_readAll_b127 _ J
theorem Sfm_readAll_b127 {G : ai_G} {d M : Nat} {h0 : ai_H} {α : Type} {P : α → Option ai_R → Prop}  (b0 : mS) (J : JV) {r : mS → Option α} (kk : ∀ (q : mS) (J : JV × JV), Tj G (d + 6) 123 P (r q) 148 [J.1.1, J.2.1] [] (mH M q h0)) : Tj G (d + 6) 123 P ((lp fm_readAll_b127 b0).bind r) 127 [some (.ref M), J.1] [] (mH M b0 h0) := tq_lp1 (J := J) (fun q J => wfm_readAll_b127  q J) rfl rfl kk
theorem wfm_readAll {G : ai_G} {d M : Nat} {h0 : ai_H} (s : mS) : ∀ r, fm_readAll s = some r → (PmV M h0) r (ai_call G (d + 7) 123 [.ref M] (mH M s h0)) := by
  refine tq_meth (P := (PmV M h0)) (d := (d + 6)) (Nat.le_of_ble_eq_true rfl) ?_
  show Tj G (d + 6) 123 (PmV M h0) (fm_readAll s) 0 [some (.ref M), none] [] (mH M s h0)
  unfold fm_readAll
  refine tq_aload_n dX8_readAll_0 rfl ?_
  refine tq_aload_n dX8_readAll_1 rfl ?_
  refine tm_gi (k9 := 1) dX8_readAll_2 rfl rfl ?_
  refine tm_pi dX8_readAll_5 rfl rfl (fun s5 => ?_)
  refine tq_aload_n dX8_readAll_8 rfl ?_
  refine tq_iconst (v := 0) dX8_readAll_9 (by decide) ?_
  refine tm_pi dX8_readAll_10 rfl rfl (fun s10 => ?_)
  refine tq_aload_n dX8_readAll_13 rfl ?_
  refine tq_iconst (v := 0) dX8_readAll_14 (by decide) ?_
  refine tm_pi dX8_readAll_15 rfl rfl (fun s15 => ?_)
  refine tq_aload_n dX8_readAll_18 rfl ?_
  refine tq_iconst (v := 0) dX8_readAll_19 (by decide) ?_
  refine tm_pi dX8_readAll_20 rfl rfl (fun s20 => ?_)
  refine tq_aload_n dX8_readAll_23 rfl ?_
  refine tq_iconst (v := (-1)) dX8_readAll_24 (by decide) ?_
  refine tm_pi dX8_readAll_25 rfl rfl (fun s25 => ?_)
  refine tq_aload_n dX8_readAll_28 rfl ?_
  refine tq_bipush (v := 8) dX8_readAll_29 (by decide) ?_
  refine tm_pi dX8_readAll_31 rfl rfl (fun s31 => ?_)
  refine tq_aload_n dX8_readAll_34 rfl ?_
  refine tq_bipush (v := 6) dX8_readAll_35 (by decide) ?_
  refine tm_pi dX8_readAll_37 rfl rfl (fun s37 => ?_)
  refine tq_aload_n dX8_readAll_40 rfl ?_
  refine tq_iconst (v := 0) dX8_readAll_41 (by decide) ?_
  refine tm_pi dX8_readAll_42 rfl rfl (fun s42 => ?_)
  refine tq_aload_n dX8_readAll_45 rfl ?_
  refine tq_iconst (v := 0) dX8_readAll_46 (by decide) ?_
  refine tm_pi dX8_readAll_47 rfl rfl (fun s47 => ?_)
  refine tq_aload_n dX8_readAll_50 rfl ?_
  refine tq_iconst (v := 0) dX8_readAll_51 (by decide) ?_
  refine tm_pi dX8_readAll_52 rfl rfl (fun s52 => ?_)
  refine tq_aload_n dX8_readAll_55 rfl ?_
  refine tq_iconst (v := 0) dX8_readAll_56 (by decide) ?_
  refine tm_pi dX8_readAll_57 rfl rfl (fun s57 => ?_)
  refine tq_aload_n dX8_readAll_60 rfl ?_
  refine tq_iconst (v := 0) dX8_readAll_61 (by decide) ?_
  refine tm_pi dX8_readAll_62 rfl rfl (fun s62 => ?_)
  refine tq_aload_n dX8_readAll_65 rfl ?_
  refine tq_iconst (v := 0) dX8_readAll_66 (by decide) ?_
  refine tm_pi dX8_readAll_67 rfl rfl (fun s67 => ?_)
  refine tq_aload_n dX8_readAll_70 rfl ?_
  refine tq_iconst (v := 0) dX8_readAll_71 (by decide) ?_
  refine tm_pz dX8_readAll_72 rfl rfl (by decide) (fun s72 => ?_)
  refine tq_aload_n dX8_readAll_75 rfl ?_
  refine tq_iconst (v := 0) dX8_readAll_76 (by decide) ?_
  refine tm_pz dX8_readAll_77 rfl rfl (by decide) (fun s77 => ?_)
  refine tq_aload_n dX8_readAll_80 rfl ?_
  refine tq_iconst (v := 0) dX8_readAll_81 (by decide) ?_
  refine tm_pz dX8_readAll_82 rfl rfl (by decide) (fun s82 => ?_)
  refine tq_aload_n dX8_readAll_85 rfl ?_
  refine tq_iconst (v := 0) dX8_readAll_86 (by decide) ?_
  refine tm_pz dX8_readAll_87 rfl rfl (by decide) (fun s87 => ?_)
  refine tq_aload_n dX8_readAll_90 rfl ?_
  refine tq_iconst (v := 0) dX8_readAll_91 (by decide) ?_
  refine tm_pi dX8_readAll_92 rfl rfl (fun s92 => ?_)
  refine tq_iconst (v := 0) dX8_readAll_95 (by decide) ?_
  refine tq_istore_n (L' := [_, _]) dX8_readAll_96 (Nat.le_of_ble_eq_true rfl) rfl ?_
  refine Sfm_readAll_b97 _ _ () (fun q97 J97 => ?_)
  refine tq_aload_n dX8_readAll_123 rfl ?_
  refine tm_c0_V dX8_readAll_124 rfl rfl rfl (Nat.le_of_ble_eq_true rfl) (wfm_token (d := d + 4) _) (fun p124 => ?_)
  refine Sfm_readAll_b127 _ J97 (fun q127 J127 => ?_)
  exact tq_return dX8_readAll_148 rfl rfl
abbrev Pfm_river_b82 (G : ai_G) (d M : Nat) (h0 : ai_H)  : (Int32 × mS) ⊕ mS → Option ai_R → Prop := Sum.elim (fun (q : Int32 × mS) run => ∃ J : Unit, run = ai_run G (d + 7) 124 82 [some (.ref M), some (.int q.1)] [] (mH M q.2 h0)) (fun (q : mS) run => ∃ J : JV, run = ai_run G (d + 7) 124 120 [some (.ref M), J.1] [] (mH M q h0))
theorem Bfm_river_b82 {G : ai_G} {d M : Nat} {h0 : ai_H}  (b0 : Int32) (b1 : mS) (J : Unit) : Tj G (d + 7) 124 (Pfm_river_b82 G d M h0) (some (.inl (b0, b1))) 82 [some (.ref M), some (.int b0)] [] (mH M b1 h0) := tq_back J rfl rfl
theorem Efm_river_b82 {G : ai_G} {d M : Nat} {h0 : ai_H}  (b0 : mS) (J : JV) : Tj G (d + 7) 124 (Pfm_river_b82 G d M h0) (some (.inr b0)) 120 [some (.ref M), J.1] [] (mH M b0 h0) := tq_exit J rfl rfl
theorem wfm_river_b82 {G : ai_G} {d M : Nat} {h0 : ai_H}  (q : Int32 × mS) (J : Unit) : Tj G (d + 7) 124 (Pfm_river_b82 G d M h0) (fm_river_b82 q) 82 [some (.ref M), some (.int q.1)] [] (mH M q.2 h0) := by
  unfold fm_river_b82
  refine tq_iload_n dX8_river_82 rfl ?_
  refine tq_aload_n dX8_river_83 rfl ?_
  refine tm_gi (k9 := 18) dX8_river_84 rfl rfl ?_
  refine tq_icmp_ge dX8_river_87 rfl ?_ ?_
  · exact Efm_river_b82 _ ⟨some (.int q.1), rfl⟩
  · refine tq_aload_n dX8_river_90 rfl ?_
    refine tm_ga (j := 5) dX8_river_91 rfl rfl ?_
    refine tq_iload_n dX8_river_94 rfl ?_
    refine tq_aload_n dX8_river_95 rfl ?_
    refine tm_ga (j := 3) dX8_river_96 rfl rfl ?_
    refine tq_iload_n dX8_river_99 rfl ?_
    refine tm_ild dX8_river_100 rfl (fun x100 => ?_)
    refine tm_ist dX8_river_101 rfl (fun s101 => ?_)
    refine tq_aload_n dX8_river_102 rfl ?_
    refine tm_ga (j := 6) dX8_river_103 rfl rfl ?_
    refine tq_iload_n dX8_river_106 rfl ?_
    refine tq_aload_n dX8_river_107 rfl ?_
    refine tm_ga (j := 4) dX8_river_108 rfl rfl ?_
    refine tq_iload_n dX8_river_111 rfl ?_
    refine tm_ild dX8_river_112 rfl (fun x112 => ?_)
    refine tm_ist dX8_river_113 rfl (fun s113 => ?_)
    refine tq_iinc (v := (q.1 + 1)) (L' := [_, _]) dX8_river_114 rfl (Nat.le_of_ble_eq_true rfl) rfl rfl ?_
    refine tq_goto dX8_river_117 rfl ?_
    exact Bfm_river_b82 _ _ ()
theorem Sfm_river_b82 {G : ai_G} {d M : Nat} {h0 : ai_H} {α : Type} {P : α → Option ai_R → Prop}  (b0 : Int32) (b1 : mS) (J : Unit) {r : mS → Option α} (kk : ∀ (q : mS) (J : JV), Tj G (d + 7) 124 P (r q) 120 [some (.ref M), J.1] [] (mH M q h0)) : Tj G (d + 7) 124 P ((lp fm_river_b82 (b0, b1)).bind r) 82 [some (.ref M), some (.int b0)] [] (mH M b1 h0) := tq_lp1 (J := J) (fun q J => wfm_river_b82  q J) rfl rfl kk
abbrev Pfm_river_b122 (G : ai_G) (d M : Nat) (h0 : ai_H)  : (Int32 × mS) ⊕ mS → Option ai_R → Prop := Sum.elim (fun (q : Int32 × mS) run => ∃ J : Unit, run = ai_run G (d + 7) 124 122 [some (.ref M), some (.int q.1)] [] (mH M q.2 h0)) (fun (q : mS) run => ∃ J : JV, run = ai_run G (d + 7) 124 179 [some (.ref M), J.1] [] (mH M q h0))
theorem Bfm_river_b122 {G : ai_G} {d M : Nat} {h0 : ai_H}  (b0 : Int32) (b1 : mS) (J : Unit) : Tj G (d + 7) 124 (Pfm_river_b122 G d M h0) (some (.inl (b0, b1))) 122 [some (.ref M), some (.int b0)] [] (mH M b1 h0) := tq_back J rfl rfl
theorem Efm_river_b122 {G : ai_G} {d M : Nat} {h0 : ai_H}  (b0 : mS) (J : JV) : Tj G (d + 7) 124 (Pfm_river_b122 G d M h0) (some (.inr b0)) 179 [some (.ref M), J.1] [] (mH M b0 h0) := tq_exit J rfl rfl
theorem wfm_river_j152 {G : ai_G} {d M : Nat} {h0 : ai_H}    (s : mS) (v1 : Int32) (t1 : Int32) (t2 : Int32): Tj G (d + 7) 124 (Pfm_river_b122 G d M h0) (fm_river_j152 s v1 t1 t2) 152 [some (.ref M), some (.int v1)] [.int t2, .int t1, .ref (M + 16)] (mH M s h0) := by
  unfold fm_river_j152
  refine tm_ist dX8_river_152 rfl (fun s152 => ?_)
  refine tq_aload_n dX8_river_153 rfl ?_
  refine tm_ga (j := 17) dX8_river_154 rfl rfl ?_
  refine tq_iload_n dX8_river_157 rfl ?_
  refine tq_aload_n dX8_river_158 rfl ?_
  refine tm_ga (j := 11) dX8_river_159 rfl rfl ?_
  refine tq_iload_n dX8_river_162 rfl ?_
  refine tm_ild dX8_river_163 rfl (fun x163 => ?_)
  refine tq_if_ge dX8_river_164 rfl ?_ ?_
  · refine tq_iconst (v := 1) dX8_river_171 (by decide) ?_
    refine tm_ist dX8_river_172 rfl (fun s172 => ?_)
    refine tq_iinc (v := (v1 + 1)) (L' := [_, _]) dX8_river_173 rfl (Nat.le_of_ble_eq_true rfl) rfl rfl ?_
    refine tq_goto dX8_river_176 rfl ?_
    exact Bfm_river_b122 _ _ ()
  · refine tq_iconst (v := 0) dX8_river_167 (by decide) ?_
    refine tq_goto dX8_river_168 rfl ?_
    refine tm_ist dX8_river_172 rfl (fun s172 => ?_)
    refine tq_iinc (v := (v1 + 1)) (L' := [_, _]) dX8_river_173 rfl (Nat.le_of_ble_eq_true rfl) rfl rfl ?_
    refine tq_goto dX8_river_176 rfl ?_
    exact Bfm_river_b122 _ _ ()
theorem wfm_river_b122 {G : ai_G} {d M : Nat} {h0 : ai_H}  (q : Int32 × mS) (J : Unit) : Tj G (d + 7) 124 (Pfm_river_b122 G d M h0) (fm_river_b122 q) 122 [some (.ref M), some (.int q.1)] [] (mH M q.2 h0) := by
  unfold fm_river_b122
  refine tq_iload_n dX8_river_122 rfl ?_
  refine tq_bipush (v := 56) dX8_river_123 (by decide) ?_
  refine tq_icmp_ge dX8_river_125 rfl ?_ ?_
  · exact Efm_river_b122 _ ⟨some (.int q.1), rfl⟩
  · refine tq_aload_n dX8_river_128 rfl ?_
    refine tm_ga (j := 16) dX8_river_129 rfl rfl ?_
    refine tq_iload_n dX8_river_132 rfl ?_
    refine tq_aload_n dX8_river_133 rfl ?_
    refine tm_ga (j := 10) dX8_river_134 rfl rfl ?_
    refine tq_iload_n dX8_river_137 rfl ?_
    refine tm_ild dX8_river_138 rfl (fun x138 => ?_)
    refine tq_if_ge dX8_river_139 rfl ?_ ?_
    · refine tq_aload_n dX8_river_146 rfl ?_
      refine tm_ga (j := 10) dX8_river_147 rfl rfl ?_
      refine tq_iload_n dX8_river_150 rfl ?_
      refine tm_ild dX8_river_151 rfl (fun x151 => ?_)
      exact wfm_river_j152 _ _ _ _
    · refine tq_iconst (v := 0) dX8_river_142 (by decide) ?_
      refine tq_goto dX8_river_143 rfl ?_
      exact wfm_river_j152 _ _ _ _
theorem Sfm_river_b122 {G : ai_G} {d M : Nat} {h0 : ai_H} {α : Type} {P : α → Option ai_R → Prop}  (b0 : Int32) (b1 : mS) (J : Unit) {r : mS → Option α} (kk : ∀ (q : mS) (J : JV), Tj G (d + 7) 124 P (r q) 179 [some (.ref M), J.1] [] (mH M q h0)) : Tj G (d + 7) 124 P ((lp fm_river_b122 (b0, b1)).bind r) 122 [some (.ref M), some (.int b0)] [] (mH M b1 h0) := tq_lp1 (J := J) (fun q J => wfm_river_b122  q J) rfl rfl kk
abbrev Pfm_river_b181 (G : ai_G) (d M : Nat) (h0 : ai_H)  : (Int32 × mS) ⊕ mS → Option ai_R → Prop := Sum.elim (fun (q : Int32 × mS) run => ∃ J : Unit, run = ai_run G (d + 7) 124 181 [some (.ref M), some (.int q.1)] [] (mH M q.2 h0)) (fun (q : mS) run => ∃ J : JV, run = ai_run G (d + 7) 124 200 [some (.ref M), J.1] [] (mH M q h0))
theorem Bfm_river_b181 {G : ai_G} {d M : Nat} {h0 : ai_H}  (b0 : Int32) (b1 : mS) (J : Unit) : Tj G (d + 7) 124 (Pfm_river_b181 G d M h0) (some (.inl (b0, b1))) 181 [some (.ref M), some (.int b0)] [] (mH M b1 h0) := tq_back J rfl rfl
theorem Efm_river_b181 {G : ai_G} {d M : Nat} {h0 : ai_H}  (b0 : mS) (J : JV) : Tj G (d + 7) 124 (Pfm_river_b181 G d M h0) (some (.inr b0)) 200 [some (.ref M), J.1] [] (mH M b0 h0) := tq_exit J rfl rfl
theorem wfm_river_b181 {G : ai_G} {d M : Nat} {h0 : ai_H}  (q : Int32 × mS) (J : Unit) : Tj G (d + 7) 124 (Pfm_river_b181 G d M h0) (fm_river_b181 q) 181 [some (.ref M), some (.int q.1)] [] (mH M q.2 h0) := by
  unfold fm_river_b181
  refine tq_iload_n dX8_river_181 rfl ?_
  refine tq_bipush (v := 28) dX8_river_182 (by decide) ?_
  refine tq_icmp_ge dX8_river_184 rfl ?_ ?_
  · exact Efm_river_b181 _ ⟨some (.int q.1), rfl⟩
  · refine tq_aload_n dX8_river_187 rfl ?_
    refine tm_ga (j := 22) dX8_river_188 rfl rfl ?_
    refine tq_iload_n dX8_river_191 rfl ?_
    refine tq_iconst (v := 0) dX8_river_192 (by decide) ?_
    refine tm_ist dX8_river_193 rfl (fun s193 => ?_)
    refine tq_iinc (v := (q.1 + 1)) (L' := [_, _]) dX8_river_194 rfl (Nat.le_of_ble_eq_true rfl) rfl rfl ?_
    refine tq_goto dX8_river_197 rfl ?_
    exact Bfm_river_b181 _ _ ()
theorem Sfm_river_b181 {G : ai_G} {d M : Nat} {h0 : ai_H} {α : Type} {P : α → Option ai_R → Prop}  (b0 : Int32) (b1 : mS) (J : Unit) {r : mS → Option α} (kk : ∀ (q : mS) (J : JV), Tj G (d + 7) 124 P (r q) 200 [some (.ref M), J.1] [] (mH M q h0)) : Tj G (d + 7) 124 P ((lp fm_river_b181 (b0, b1)).bind r) 181 [some (.ref M), some (.int b0)] [] (mH M b1 h0) := tq_lp1 (J := J) (fun q J => wfm_river_b181  q J) rfl rfl kk
abbrev Pfm_river_b202 (G : ai_G) (d M : Nat) (h0 : ai_H)  : (Int32 × mS) ⊕ mS → Option ai_R → Prop := Sum.elim (fun (q : Int32 × mS) run => ∃ J : Unit, run = ai_run G (d + 7) 124 202 [some (.ref M), some (.int q.1)] [] (mH M q.2 h0)) (fun (q : mS) run => ∃ J : JV, run = ai_run G (d + 7) 124 264 [some (.ref M), J.1] [] (mH M q h0))
theorem Bfm_river_b202 {G : ai_G} {d M : Nat} {h0 : ai_H}  (b0 : Int32) (b1 : mS) (J : Unit) : Tj G (d + 7) 124 (Pfm_river_b202 G d M h0) (some (.inl (b0, b1))) 202 [some (.ref M), some (.int b0)] [] (mH M b1 h0) := tq_back J rfl rfl
theorem Efm_river_b202 {G : ai_G} {d M : Nat} {h0 : ai_H}  (b0 : mS) (J : JV) : Tj G (d + 7) 124 (Pfm_river_b202 G d M h0) (some (.inr b0)) 264 [some (.ref M), J.1] [] (mH M b0 h0) := tq_exit J rfl rfl
theorem wfm_river_b202 {G : ai_G} {d M : Nat} {h0 : ai_H}  (q : Int32 × mS) (J : Unit) : Tj G (d + 7) 124 (Pfm_river_b202 G d M h0) (fm_river_b202 q) 202 [some (.ref M), some (.int q.1)] [] (mH M q.2 h0) := by
  unfold fm_river_b202
  refine tq_iload_n dX8_river_202 rfl ?_
  refine tq_aload_n dX8_river_203 rfl ?_
  refine tm_gi (k9 := 48) dX8_river_204 rfl rfl ?_
  refine tq_icmp_ge dX8_river_207 rfl ?_ ?_
  · exact Efm_river_b202 _ ⟨some (.int q.1), rfl⟩
  · refine tq_aload_n dX8_river_210 rfl ?_
    refine tm_ga (j := 18) dX8_river_211 rfl rfl ?_
    refine tq_iload_n dX8_river_214 rfl ?_
    refine tq_aload_n dX8_river_215 rfl ?_
    refine tm_ga (j := 12) dX8_river_216 rfl rfl ?_
    refine tq_iload_n dX8_river_219 rfl ?_
    refine tm_ild dX8_river_220 rfl (fun x220 => ?_)
    refine tm_ist dX8_river_221 rfl (fun s221 => ?_)
    refine tq_aload_n dX8_river_222 rfl ?_
    refine tm_ga (j := 19) dX8_river_223 rfl rfl ?_
    refine tq_iload_n dX8_river_226 rfl ?_
    refine tq_aload_n dX8_river_227 rfl ?_
    refine tm_ga (j := 13) dX8_river_228 rfl rfl ?_
    refine tq_iload_n dX8_river_231 rfl ?_
    refine tm_ild dX8_river_232 rfl (fun x232 => ?_)
    refine tm_ist dX8_river_233 rfl (fun s233 => ?_)
    refine tq_aload_n dX8_river_234 rfl ?_
    refine tm_ga (j := 20) dX8_river_235 rfl rfl ?_
    refine tq_iload_n dX8_river_238 rfl ?_
    refine tq_aload_n dX8_river_239 rfl ?_
    refine tm_ga (j := 14) dX8_river_240 rfl rfl ?_
    refine tq_iload_n dX8_river_243 rfl ?_
    refine tm_ild dX8_river_244 rfl (fun x244 => ?_)
    refine tm_ist dX8_river_245 rfl (fun s245 => ?_)
    refine tq_aload_n dX8_river_246 rfl ?_
    refine tm_ga (j := 22) dX8_river_247 rfl rfl ?_
    refine tq_iload_n dX8_river_250 rfl ?_
    refine tq_aload_n dX8_river_251 rfl ?_
    refine tm_ga (j := 19) dX8_river_252 rfl rfl ?_
    refine tq_iload_n dX8_river_255 rfl ?_
    refine tm_ild dX8_river_256 rfl (fun x256 => ?_)
    refine tm_ist dX8_river_257 rfl (fun s257 => ?_)
    refine tq_iinc (v := (q.1 + 1)) (L' := [_, _]) dX8_river_258 rfl (Nat.le_of_ble_eq_true rfl) rfl rfl ?_
    refine tq_goto dX8_river_261 rfl ?_
    exact Bfm_river_b202 _ _ ()
theorem Sfm_river_b202 {G : ai_G} {d M : Nat} {h0 : ai_H} {α : Type} {P : α → Option ai_R → Prop}  (b0 : Int32) (b1 : mS) (J : Unit) {r : mS → Option α} (kk : ∀ (q : mS) (J : JV), Tj G (d + 7) 124 P (r q) 264 [some (.ref M), J.1] [] (mH M q h0)) : Tj G (d + 7) 124 P ((lp fm_river_b202 (b0, b1)).bind r) 202 [some (.ref M), some (.int b0)] [] (mH M b1 h0) := tq_lp1 (J := J) (fun q J => wfm_river_b202  q J) rfl rfl kk
abbrev Pfm_river_b266 (G : ai_G) (d M : Nat) (h0 : ai_H)  : (Int32 × mS) ⊕ mS → Option ai_R → Prop := Sum.elim (fun (q : Int32 × mS) run => ∃ J : Unit, run = ai_run G (d + 7) 124 266 [some (.ref M), some (.int q.1)] [] (mH M q.2 h0)) (fun (q : mS) run => ∃ J : JV, run = ai_run G (d + 7) 124 302 [some (.ref M), J.1] [] (mH M q h0))
theorem Bfm_river_b266 {G : ai_G} {d M : Nat} {h0 : ai_H}  (b0 : Int32) (b1 : mS) (J : Unit) : Tj G (d + 7) 124 (Pfm_river_b266 G d M h0) (some (.inl (b0, b1))) 266 [some (.ref M), some (.int b0)] [] (mH M b1 h0) := tq_back J rfl rfl
theorem Efm_river_b266 {G : ai_G} {d M : Nat} {h0 : ai_H}  (b0 : mS) (J : JV) : Tj G (d + 7) 124 (Pfm_river_b266 G d M h0) (some (.inr b0)) 302 [some (.ref M), J.1] [] (mH M b0 h0) := tq_exit J rfl rfl
theorem wfm_river_b266 {G : ai_G} {d M : Nat} {h0 : ai_H}  (q : Int32 × mS) (J : Unit) : Tj G (d + 7) 124 (Pfm_river_b266 G d M h0) (fm_river_b266 q) 266 [some (.ref M), some (.int q.1)] [] (mH M q.2 h0) := by
  unfold fm_river_b266
  refine tq_iload_n dX8_river_266 rfl ?_
  refine tq_aload_n dX8_river_267 rfl ?_
  refine tm_gi (k9 := 49) dX8_river_268 rfl rfl ?_
  refine tq_icmp_ge dX8_river_271 rfl ?_ ?_
  · exact Efm_river_b266 _ ⟨some (.int q.1), rfl⟩
  · refine tq_aload_n dX8_river_274 rfl ?_
    refine tm_ga (j := 21) dX8_river_275 rfl rfl ?_
    refine tq_iload_n dX8_river_278 rfl ?_
    refine tq_aload_n dX8_river_279 rfl ?_
    refine tm_ga (j := 15) dX8_river_280 rfl rfl ?_
    refine tq_iload_n dX8_river_283 rfl ?_
    refine tm_ild dX8_river_284 rfl (fun x284 => ?_)
    refine tm_ist dX8_river_285 rfl (fun s285 => ?_)
    refine tq_aload_n dX8_river_286 rfl ?_
    refine tm_ga (j := 22) dX8_river_287 rfl rfl ?_
    refine tq_bipush (v := 20) dX8_river_290 (by decide) ?_
    refine tq_iload_n dX8_river_292 rfl ?_
    refine tq_iadd dX8_river_293 ?_
    refine tq_iconst (v := (-1)) dX8_river_294 (by decide) ?_
    refine tm_ist dX8_river_295 rfl (fun s295 => ?_)
    refine tq_iinc (v := (q.1 + 1)) (L' := [_, _]) dX8_river_296 rfl (Nat.le_of_ble_eq_true rfl) rfl rfl ?_
    refine tq_goto dX8_river_299 rfl ?_
    exact Bfm_river_b266 _ _ ()
theorem Sfm_river_b266 {G : ai_G} {d M : Nat} {h0 : ai_H} {α : Type} {P : α → Option ai_R → Prop}  (b0 : Int32) (b1 : mS) (J : Unit) {r : mS → Option α} (kk : ∀ (q : mS) (J : JV), Tj G (d + 7) 124 P (r q) 302 [some (.ref M), J.1] [] (mH M q h0)) : Tj G (d + 7) 124 P ((lp fm_river_b266 (b0, b1)).bind r) 266 [some (.ref M), some (.int b0)] [] (mH M b1 h0) := tq_lp1 (J := J) (fun q J => wfm_river_b266  q J) rfl rfl kk
abbrev Pfm_river_b335 (G : ai_G) (d M : Nat) (h0 : ai_H)  : (Int32 × mS) ⊕ mS → Option ai_R → Prop := Sum.elim (fun (q : Int32 × mS) run => ∃ J : Unit, run = ai_run G (d + 7) 124 335 [some (.ref M), some (.int q.1)] [] (mH M q.2 h0)) (fun (q : mS) run => ∃ J : JV, run = ai_run G (d + 7) 124 353 [some (.ref M), J.1] [] (mH M q h0))
theorem Bfm_river_b335 {G : ai_G} {d M : Nat} {h0 : ai_H}  (b0 : Int32) (b1 : mS) (J : Unit) : Tj G (d + 7) 124 (Pfm_river_b335 G d M h0) (some (.inl (b0, b1))) 335 [some (.ref M), some (.int b0)] [] (mH M b1 h0) := tq_back J rfl rfl
theorem Efm_river_b335 {G : ai_G} {d M : Nat} {h0 : ai_H}  (b0 : mS) (J : JV) : Tj G (d + 7) 124 (Pfm_river_b335 G d M h0) (some (.inr b0)) 353 [some (.ref M), J.1] [] (mH M b0 h0) := tq_exit J rfl rfl
theorem wfm_river_b335 {G : ai_G} {d M : Nat} {h0 : ai_H}  (q : Int32 × mS) (J : Unit) : Tj G (d + 7) 124 (Pfm_river_b335 G d M h0) (fm_river_b335 q) 335 [some (.ref M), some (.int q.1)] [] (mH M q.2 h0) := by
  unfold fm_river_b335
  refine tq_iload_n dX8_river_335 rfl ?_
  refine tq_iconst (v := 3) dX8_river_336 (by decide) ?_
  refine tq_icmp_ge dX8_river_337 rfl ?_ ?_
  · exact Efm_river_b335 _ ⟨some (.int q.1), rfl⟩
  · refine tq_aload_n dX8_river_340 rfl ?_
    refine tm_ga (j := 43) dX8_river_341 rfl rfl ?_
    refine tq_iload_n dX8_river_344 rfl ?_
    refine tq_iconst (v := 0) dX8_river_345 (by decide) ?_
    refine tm_bst dX8_river_346 rfl (fun s346 => ?_)
    refine tq_iinc (v := (q.1 + 1)) (L' := [_, _]) dX8_river_347 rfl (Nat.le_of_ble_eq_true rfl) rfl rfl ?_
    refine tq_goto dX8_river_350 rfl ?_
    exact Bfm_river_b335 _ _ ()
theorem Sfm_river_b335 {G : ai_G} {d M : Nat} {h0 : ai_H} {α : Type} {P : α → Option ai_R → Prop}  (b0 : Int32) (b1 : mS) (J : Unit) {r : mS → Option α} (kk : ∀ (q : mS) (J : JV), Tj G (d + 7) 124 P (r q) 353 [some (.ref M), J.1] [] (mH M q h0)) : Tj G (d + 7) 124 P ((lp fm_river_b335 (b0, b1)).bind r) 335 [some (.ref M), some (.int b0)] [] (mH M b1 h0) := tq_lp1 (J := J) (fun q J => wfm_river_b335  q J) rfl rfl kk
theorem wfm_river_j77 {G : ai_G} {d M : Nat} {h0 : ai_H} (j1 : JV)   (s : mS) (t1 : Int32): Tj G (d + 7) 124 (PmI M h0) (fm_river_j77 s t1) 77 [some (.ref M), j1.1] [.int t1, .ref M] (mH M s h0) := by
  unfold fm_river_j77
  refine tm_pi dX8_river_77 rfl rfl (fun s77 => ?_)
  refine tq_iconst (v := 0) dX8_river_80 (by decide) ?_
  refine tq_istore_n (L' := [_, _]) dX8_river_81 (Nat.le_of_ble_eq_true rfl) rfl ?_
  refine Sfm_river_b82 _ _ () (fun q82 J82 => ?_)
  refine tq_iconst (v := 0) dX8_river_120 (by decide) ?_
  refine tq_istore_n (L' := [_, _]) dX8_river_121 (Nat.le_of_ble_eq_true rfl) rfl ?_
  refine Sfm_river_b122 _ _ () (fun q122 J122 => ?_)
  refine tq_iconst (v := 0) dX8_river_179 (by decide) ?_
  refine tq_istore_n (L' := [_, _]) dX8_river_180 (Nat.le_of_ble_eq_true rfl) rfl ?_
  refine Sfm_river_b181 _ _ () (fun q181 J181 => ?_)
  refine tq_iconst (v := 0) dX8_river_200 (by decide) ?_
  refine tq_istore_n (L' := [_, _]) dX8_river_201 (Nat.le_of_ble_eq_true rfl) rfl ?_
  refine Sfm_river_b202 _ _ () (fun q202 J202 => ?_)
  refine tq_iconst (v := 0) dX8_river_264 (by decide) ?_
  refine tq_istore_n (L' := [_, _]) dX8_river_265 (Nat.le_of_ble_eq_true rfl) rfl ?_
  refine Sfm_river_b266 _ _ () (fun q266 J266 => ?_)
  refine tq_aload_n dX8_river_302 rfl ?_
  refine tm_ga (j := 22) dX8_river_303 rfl rfl ?_
  refine tq_bipush (v := 27) dX8_river_306 (by decide) ?_
  refine tq_aload_n dX8_river_308 rfl ?_
  refine tm_gi (k9 := 45) dX8_river_309 rfl rfl ?_
  refine tm_ist dX8_river_312 rfl (fun s312 => ?_)
  refine tq_aload_n dX8_river_313 rfl ?_
  refine tq_iconst (v := 0) dX8_river_314 (by decide) ?_
  refine tm_pi dX8_river_315 rfl rfl (fun s315 => ?_)
  refine tq_aload_n dX8_river_318 rfl ?_
  refine tq_iconst (v := 0) dX8_river_319 (by decide) ?_
  refine tm_pi dX8_river_320 rfl rfl (fun s320 => ?_)
  refine tq_aload_n dX8_river_323 rfl ?_
  refine tq_iconst (v := 0) dX8_river_324 (by decide) ?_
  refine tm_pi dX8_river_325 rfl rfl (fun s325 => ?_)
  refine tq_aload_n dX8_river_328 rfl ?_
  refine tq_iconst (v := 0) dX8_river_329 (by decide) ?_
  refine tm_pi dX8_river_330 rfl rfl (fun s330 => ?_)
  refine tq_iconst (v := 0) dX8_river_333 (by decide) ?_
  refine tq_istore_n (L' := [_, _]) dX8_river_334 (Nat.le_of_ble_eq_true rfl) rfl ?_
  refine Sfm_river_b335 _ _ () (fun q335 J335 => ?_)
  refine tq_aload_n dX8_river_353 rfl ?_
  refine tm_gi (k9 := 48) dX8_river_354 rfl rfl ?_
  exact tq_ireturn dX8_river_357 rfl rfl
theorem wfm_river {G : ai_G} {d M : Nat} {h0 : ai_H} (s : mS) : ∀ r, fm_river s = some r → (PmI M h0) r (ai_call G (d + 8) 124 [.ref M] (mH M s h0)) := by
  refine tq_meth (P := (PmI M h0)) (d := (d + 7)) (Nat.le_of_ble_eq_true rfl) ?_
  show Tj G (d + 7) 124 (PmI M h0) (fm_river s) 0 [some (.ref M), none] [] (mH M s h0)
  unfold fm_river
  refine tq_aload_n dX8_river_0 rfl ?_
  refine tm_c0_V dX8_river_1 rfl rfl rfl (Nat.le_of_ble_eq_true rfl) (wfm_readAll (d := d) _) (fun p1 => ?_)
  refine tq_aload_n dX8_river_4 rfl ?_
  refine tm_gi (k9 := 2) dX8_river_5 rfl rfl ?_
  refine tq_if_le dX8_river_8 rfl ?_ ?_
  · refine tq_aload_n dX8_river_13 rfl ?_
    refine tq_aload_n dX8_river_14 rfl ?_
    refine tm_gi (k9 := 38) dX8_river_15 rfl rfl ?_
    refine tm_pi dX8_river_18 rfl rfl (fun s18 => ?_)
    refine tq_aload_n dX8_river_21 rfl ?_
    refine tq_aload_n dX8_river_22 rfl ?_
    refine tm_gi (k9 := 39) dX8_river_23 rfl rfl ?_
    refine tm_pi dX8_river_26 rfl rfl (fun s26 => ?_)
    refine tq_aload_n dX8_river_29 rfl ?_
    refine tq_aload_n dX8_river_30 rfl ?_
    refine tm_gi (k9 := 42) dX8_river_31 rfl rfl ?_
    refine tm_pi dX8_river_34 rfl rfl (fun s34 => ?_)
    refine tq_aload_n dX8_river_37 rfl ?_
    refine tq_aload_n dX8_river_38 rfl ?_
    refine tm_gi (k9 := 43) dX8_river_39 rfl rfl ?_
    refine tm_pi dX8_river_42 rfl rfl (fun s42 => ?_)
    refine tq_aload_n dX8_river_45 rfl ?_
    refine tq_aload_n dX8_river_46 rfl ?_
    refine tm_gi (k9 := 44) dX8_river_47 rfl rfl ?_
    refine tm_pi dX8_river_50 rfl rfl (fun s50 => ?_)
    refine tq_aload_n dX8_river_53 rfl ?_
    refine tq_aload_n dX8_river_54 rfl ?_
    refine tm_gi (k9 := 20) dX8_river_55 rfl rfl ?_
    refine tm_pi dX8_river_58 rfl rfl (fun s58 => ?_)
    refine tq_aload_n dX8_river_61 rfl ?_
    refine tq_aload_n dX8_river_62 rfl ?_
    refine tm_gi (k9 := 24) dX8_river_63 rfl rfl ?_
    refine tq_if_eq dX8_river_66 rfl ?_ ?_
    · refine tq_iconst (v := 0) dX8_river_76 (by decide) ?_
      exact wfm_river_j77 ⟨none, rfl⟩ _ _
    · refine tq_aload_n dX8_river_69 rfl ?_
      refine tm_gi (k9 := 17) dX8_river_70 rfl rfl ?_
      refine tq_goto dX8_river_73 rfl ?_
      exact wfm_river_j77 ⟨none, rfl⟩ _ _
  · refine tq_iconst (v := (-1)) dX8_river_11 (by decide) ?_
    exact tq_ireturn dX8_river_12 rfl rfl
theorem wfm_fault {G : ai_G} {d M : Nat} {h0 : ai_H} (s : mS) (v1 : Int32) : ∀ r, fm_fault s v1 = some r → (Pi (mH M s h0)) r (ai_call G (d + 1) 126 [.ref M, .int v1] (mH M s h0)) := by
  refine tq_meth (P := (Pi (mH M s h0))) (d := d) (Nat.le_of_ble_eq_true rfl) ?_
  show Tj G d 126 (Pi (mH M s h0)) (fm_fault s v1) 0 [some (.ref M), some (.int v1)] [] (mH M s h0)
  unfold fm_fault
  refine tq_iload_n dX8_fault_0 rfl ?_
  refine tq_if_ne dX8_fault_1 rfl ?_ ?_
  · refine tq_iload_n dX8_fault_11 rfl ?_
    refine tq_iconst (v := 1) dX8_fault_12 (by decide) ?_
    refine tq_icmp_ne dX8_fault_13 rfl ?_ ?_
    · refine tq_iconst (v := (-1)) dX8_fault_23 (by decide) ?_
      exact tq_ireturn dX8_fault_24 rfl rfl
    · refine tq_aload_n dX8_fault_16 rfl ?_
      refine tm_gi (k9 := 3) dX8_fault_17 rfl rfl ?_
      refine tq_goto dX8_fault_20 rfl ?_
      exact tq_ireturn dX8_fault_24 rfl rfl
  · refine tq_aload_n dX8_fault_4 rfl ?_
    refine tm_gi (k9 := 2) dX8_fault_5 rfl rfl ?_
    refine tq_goto dX8_fault_8 rfl ?_
    exact tq_ireturn dX8_fault_24 rfl rfl
theorem wfm_isIn {G : ai_G} {d : Nat} {h : ai_H} (v0 : Int32) (v1 : Int32) (v2 : Int32) : ∀ r, fm_isIn v0 v1 v2 = some r → (Pi h) r (ai_call G (d + 1) 134 [.int v0, .int v1, .int v2] h) := by
  refine tq_meth (P := (Pi h)) (d := d) (Nat.le_of_ble_eq_true rfl) ?_
  show Tj G d 134 (Pi h) (fm_isIn v0 v1 v2) 0 [some (.int v0), some (.int v1), some (.int v2)] [] h
  unfold fm_isIn
  refine tq_iload_n dX8_isIn_0 rfl ?_
  refine tq_iload_n dX8_isIn_1 rfl ?_
  refine tq_icmp_lt dX8_isIn_2 rfl ?_ ?_
  · refine tq_iconst (v := 0) dX8_isIn_14 (by decide) ?_
    exact tq_ireturn dX8_isIn_15 (by decide) rfl
  · refine tq_iload_n dX8_isIn_5 rfl ?_
    refine tq_iload_n dX8_isIn_6 rfl ?_
    refine tq_icmp_gt dX8_isIn_7 rfl ?_ ?_
    · refine tq_iconst (v := 0) dX8_isIn_14 (by decide) ?_
      exact tq_ireturn dX8_isIn_15 (by decide) rfl
    · refine tq_iconst (v := 1) dX8_isIn_10 (by decide) ?_
      refine tq_goto dX8_isIn_11 rfl ?_
      exact tq_ireturn dX8_isIn_15 (by decide) rfl
theorem wfm_isBoard {G : ai_G} {d M : Nat} {h0 : ai_H} (s : mS) (v1 : Int32) : ∀ r, fm_isBoard s v1 = some r → (Pi (mH M s h0)) r (ai_call G (d + 2) 135 [.ref M, .int v1] (mH M s h0)) := by
  refine tq_meth (P := (Pi (mH M s h0))) (d := (d + 1)) (Nat.le_of_ble_eq_true rfl) ?_
  show Tj G (d + 1) 135 (Pi (mH M s h0)) (fm_isBoard s v1) 0 [some (.ref M), some (.int v1)] [] (mH M s h0)
  unfold fm_isBoard
  refine tq_iload_n dX8_isBoard_0 rfl ?_
  refine tq_iconst (v := 0) dX8_isBoard_1 (by decide) ?_
  refine tq_aload_n dX8_isBoard_2 rfl ?_
  refine tm_gi (k9 := 48) dX8_isBoard_3 rfl rfl ?_
  refine tq_iconst (v := 1) dX8_isBoard_6 (by decide) ?_
  refine tq_isub dX8_isBoard_7 ?_
  refine ts_c3_i dX8_isBoard_8 rfl rfl rfl (Nat.le_of_ble_eq_true rfl) (wfm_isIn (d := d) _ _ _) (fun p8 => ?_)
  exact tq_iretB dX8_isBoard_11 rfl rfl rfl
abbrev Pfm_fill_b2 (G : ai_G) (d M : Nat) (h0 : ai_H)  : (Int32 × mS) ⊕ mS → Option ai_R → Prop := Sum.elim (fun (q : Int32 × mS) run => ∃ J : Unit, run = ai_run G d 136 2 [some (.ref M), some (.int q.1)] [] (mH M q.2 h0)) (fun (q : mS) run => ∃ J : JV × JV, run = ai_run G d 136 26 [J.1.1, J.2.1] [] (mH M q h0))
theorem Bfm_fill_b2 {G : ai_G} {d M : Nat} {h0 : ai_H}  (b0 : Int32) (b1 : mS) (J : Unit) : Tj G d 136 (Pfm_fill_b2 G d M h0) (some (.inl (b0, b1))) 2 [some (.ref M), some (.int b0)] [] (mH M b1 h0) := tq_back J rfl rfl
theorem Efm_fill_b2 {G : ai_G} {d M : Nat} {h0 : ai_H}  (b0 : mS) (J : JV × JV) : Tj G d 136 (Pfm_fill_b2 G d M h0) (some (.inr b0)) 26 [J.1.1, J.2.1] [] (mH M b0 h0) := tq_exit J rfl rfl
theorem wfm_fill_b2 {G : ai_G} {d M : Nat} {h0 : ai_H}  (q : Int32 × mS) (J : Unit) : Tj G d 136 (Pfm_fill_b2 G d M h0) (fm_fill_b2 q) 2 [some (.ref M), some (.int q.1)] [] (mH M q.2 h0) := by
  unfold fm_fill_b2
  refine tq_iload_n dX8_fill_2 rfl ?_
  refine tq_bipush (v := 28) dX8_fill_3 (by decide) ?_
  refine tq_icmp_ge dX8_fill_5 rfl ?_ ?_
  · exact Efm_fill_b2 _ (⟨some (.ref M), rfl⟩, ⟨some (.int q.1), rfl⟩)
  · refine tq_aload_n dX8_fill_8 rfl ?_
    refine tm_ga (j := 23) dX8_fill_9 rfl rfl ?_
    refine tq_iload_n dX8_fill_12 rfl ?_
    refine tq_aload_n dX8_fill_13 rfl ?_
    refine tm_ga (j := 22) dX8_fill_14 rfl rfl ?_
    refine tq_iload_n dX8_fill_17 rfl ?_
    refine tm_ild dX8_fill_18 rfl (fun x18 => ?_)
    refine tm_ist dX8_fill_19 rfl (fun s19 => ?_)
    refine tq_iinc (v := (q.1 + 1)) (L' := [_, _]) dX8_fill_20 rfl (Nat.le_of_ble_eq_true rfl) rfl rfl ?_
    refine tq_goto dX8_fill_23 rfl ?_
    exact Bfm_fill_b2 _ _ ()
theorem Sfm_fill_b2 {G : ai_G} {d M : Nat} {h0 : ai_H} {α : Type} {P : α → Option ai_R → Prop}  (b0 : Int32) (b1 : mS) (J : Unit) {r : mS → Option α} (kk : ∀ (q : mS) (J : JV × JV), Tj G d 136 P (r q) 26 [J.1.1, J.2.1] [] (mH M q h0)) : Tj G d 136 P ((lp fm_fill_b2 (b0, b1)).bind r) 2 [some (.ref M), some (.int b0)] [] (mH M b1 h0) := tq_lp1 (J := J) (fun q J => wfm_fill_b2  q J) rfl rfl kk
theorem wfm_fill {G : ai_G} {d M : Nat} {h0 : ai_H} (s : mS) : ∀ r, fm_fill s = some r → (PmV M h0) r (ai_call G (d + 1) 136 [.ref M] (mH M s h0)) := by
  refine tq_meth (P := (PmV M h0)) (d := d) (Nat.le_of_ble_eq_true rfl) ?_
  show Tj G d 136 (PmV M h0) (fm_fill s) 0 [some (.ref M), none] [] (mH M s h0)
  unfold fm_fill
  refine tq_iconst (v := 0) dX8_fill_0 (by decide) ?_
  refine tq_istore_n (L' := [_, _]) dX8_fill_1 (Nat.le_of_ble_eq_true rfl) rfl ?_
  refine Sfm_fill_b2 _ _ () (fun q2 J2 => ?_)
  exact tq_return dX8_fill_26 rfl rfl
abbrev Pfm_burdenOf_b4 (G : ai_G) (d M : Nat) (h0 : ai_H) (s : mS) (v1 : Int32) : (Int32 × Int32) ⊕ Int32 → Option ai_R → Prop := Sum.elim (fun (q : Int32 × Int32) run => ∃ J : Unit, run = ai_run G d 137 4 [some (.ref M), some (.int v1), some (.int q.1), some (.int q.2)] [] (mH M s h0)) (fun (q : Int32) run => ∃ J : JV × JV × JV, run = ai_run G d 137 44 [J.1.1, J.2.1.1, some (.int q), J.2.2.1] [] (mH M s h0))
theorem Bfm_burdenOf_b4 {G : ai_G} {d M : Nat} {h0 : ai_H} (s : mS) (v1 : Int32) (b0 : Int32) (b1 : Int32) (J : Unit) : Tj G d 137 (Pfm_burdenOf_b4 G d M h0 s v1) (some (.inl (b0, b1))) 4 [some (.ref M), some (.int v1), some (.int b0), some (.int b1)] [] (mH M s h0) := tq_back J rfl rfl
theorem Efm_burdenOf_b4 {G : ai_G} {d M : Nat} {h0 : ai_H} (s : mS) (v1 : Int32) (b0 : Int32) (J : JV × JV × JV) : Tj G d 137 (Pfm_burdenOf_b4 G d M h0 s v1) (some (.inr b0)) 44 [J.1.1, J.2.1.1, some (.int b0), J.2.2.1] [] (mH M s h0) := tq_exit J rfl rfl
theorem wfm_burdenOf_b4 {G : ai_G} {d M : Nat} {h0 : ai_H} (s : mS) (v1 : Int32) (q : Int32 × Int32) (J : Unit) : Tj G d 137 (Pfm_burdenOf_b4 G d M h0 s v1) (fm_burdenOf_b4 s v1 q) 4 [some (.ref M), some (.int v1), some (.int q.1), some (.int q.2)] [] (mH M s h0) := by
  unfold fm_burdenOf_b4
  refine tq_iload_n dX8_burdenOf_4 rfl ?_
  refine tq_aload_n dX8_burdenOf_5 rfl ?_
  refine tm_gi (k9 := 49) dX8_burdenOf_6 rfl rfl ?_
  refine tq_icmp_ge dX8_burdenOf_9 rfl ?_ ?_
  · exact Efm_burdenOf_b4 _ _ _ (⟨some (.ref M), rfl⟩, ⟨some (.int v1), rfl⟩, ⟨some (.int q.2), rfl⟩)
  · refine tq_iload_n dX8_burdenOf_12 rfl ?_
    refine tq_aload_n dX8_burdenOf_13 rfl ?_
    refine tm_ga (j := 23) dX8_burdenOf_14 rfl rfl ?_
    refine tq_bipush (v := 20) dX8_burdenOf_17 (by decide) ?_
    refine tq_iload_n dX8_burdenOf_19 rfl ?_
    refine tq_iadd dX8_burdenOf_20 ?_
    refine tm_ild dX8_burdenOf_21 rfl (fun x21 => ?_)
    refine tq_iload_n dX8_burdenOf_22 rfl ?_
    refine tq_icmp_ne dX8_burdenOf_23 rfl ?_ ?_
    · refine tq_iconst (v := 0) dX8_burdenOf_35 (by decide) ?_
      refine tq_iadd dX8_burdenOf_36 ?_
      refine tq_istore_n (L' := [_, _, _, _]) dX8_burdenOf_37 (Nat.le_of_ble_eq_true rfl) rfl ?_
      refine tq_iinc (v := (q.2 + 1)) (L' := [_, _, _, _]) dX8_burdenOf_38 rfl (Nat.le_of_ble_eq_true rfl) rfl rfl ?_
      refine tq_goto dX8_burdenOf_41 rfl ?_
      exact Bfm_burdenOf_b4 _ _ _ _ ()
    · refine tq_aload_n dX8_burdenOf_26 rfl ?_
      refine tm_ga (j := 21) dX8_burdenOf_27 rfl rfl ?_
      refine tq_iload_n dX8_burdenOf_30 rfl ?_
      refine tm_ild dX8_burdenOf_31 rfl (fun x31 => ?_)
      refine tq_goto dX8_burdenOf_32 rfl ?_
      refine tq_iadd dX8_burdenOf_36 ?_
      refine tq_istore_n (L' := [_, _, _, _]) dX8_burdenOf_37 (Nat.le_of_ble_eq_true rfl) rfl ?_
      refine tq_iinc (v := (q.2 + 1)) (L' := [_, _, _, _]) dX8_burdenOf_38 rfl (Nat.le_of_ble_eq_true rfl) rfl rfl ?_
      refine tq_goto dX8_burdenOf_41 rfl ?_
      exact Bfm_burdenOf_b4 _ _ _ _ ()
theorem Sfm_burdenOf_b4 {G : ai_G} {d M : Nat} {h0 : ai_H} {α : Type} {P : α → Option ai_R → Prop} (s : mS) (v1 : Int32) (b0 : Int32) (b1 : Int32) (J : Unit) {r : Int32 → Option α} (kk : ∀ (q : Int32) (J : JV × JV × JV), Tj G d 137 P (r q) 44 [J.1.1, J.2.1.1, some (.int q), J.2.2.1] [] (mH M s h0)) : Tj G d 137 P ((lp (fm_burdenOf_b4 s v1) (b0, b1)).bind r) 4 [some (.ref M), some (.int v1), some (.int b0), some (.int b1)] [] (mH M s h0) := tq_lp1 (J := J) (fun q J => wfm_burdenOf_b4 s v1 q J) rfl rfl kk
theorem wfm_burdenOf {G : ai_G} {d M : Nat} {h0 : ai_H} (s : mS) (v1 : Int32) : ∀ r, fm_burdenOf s v1 = some r → (Pi (mH M s h0)) r (ai_call G (d + 1) 137 [.ref M, .int v1] (mH M s h0)) := by
  refine tq_meth (P := (Pi (mH M s h0))) (d := d) (Nat.le_of_ble_eq_true rfl) ?_
  show Tj G d 137 (Pi (mH M s h0)) (fm_burdenOf s v1) 0 [some (.ref M), some (.int v1), none, none] [] (mH M s h0)
  unfold fm_burdenOf
  refine tq_iconst (v := 0) dX8_burdenOf_0 (by decide) ?_
  refine tq_istore_n (L' := [_, _, _, _]) dX8_burdenOf_1 (Nat.le_of_ble_eq_true rfl) rfl ?_
  refine tq_iconst (v := 0) dX8_burdenOf_2 (by decide) ?_
  refine tq_istore_n (L' := [_, _, _, _]) dX8_burdenOf_3 (Nat.le_of_ble_eq_true rfl) rfl ?_
  refine Sfm_burdenOf_b4 _ _ _ _ () (fun q4 J4 => ?_)
  refine tq_iload_n dX8_burdenOf_44 rfl ?_
  exact tq_ireturn dX8_burdenOf_45 rfl rfl
theorem wfm_truth {G : ai_G} {d : Nat} {h : ai_H} (v0 : Int32) : ∀ r, fm_truth v0 = some r → (Pi h) r (ai_call G (d + 1) 138 [.int v0] h) := by
  refine tq_meth (P := (Pi h)) (d := d) (Nat.le_of_ble_eq_true rfl) ?_
  show Tj G d 138 (Pi h) (fm_truth v0) 0 [some (.int v0)] [] h
  unfold fm_truth
  refine tq_iload_n dX8_truth_0 rfl ?_
  refine tq_if_eq dX8_truth_1 rfl ?_ ?_
  · refine tq_iconst (v := 0) dX8_truth_8 (by decide) ?_
    exact tq_ireturn dX8_truth_9 rfl rfl
  · refine tq_iconst (v := 1) dX8_truth_4 (by decide) ?_
    refine tq_goto dX8_truth_5 rfl ?_
    exact tq_ireturn dX8_truth_9 rfl rfl
abbrev Pfm_loadsAt_b4 (G : ai_G) (d M : Nat) (h0 : ai_H) (s : mS) (v1 : Int32) : (Int32 × Int32) ⊕ Int32 → Option ai_R → Prop := Sum.elim (fun (q : Int32 × Int32) run => ∃ J : Unit, run = ai_run G (d + 1) 139 4 [some (.ref M), some (.int v1), some (.int q.1), some (.int q.2)] [] (mH M s h0)) (fun (q : Int32) run => ∃ J : JV × JV × JV, run = ai_run G (d + 1) 139 44 [J.1.1, J.2.1.1, some (.int q), J.2.2.1] [] (mH M s h0))
theorem Bfm_loadsAt_b4 {G : ai_G} {d M : Nat} {h0 : ai_H} (s : mS) (v1 : Int32) (b0 : Int32) (b1 : Int32) (J : Unit) : Tj G (d + 1) 139 (Pfm_loadsAt_b4 G d M h0 s v1) (some (.inl (b0, b1))) 4 [some (.ref M), some (.int v1), some (.int b0), some (.int b1)] [] (mH M s h0) := tq_back J rfl rfl
theorem Efm_loadsAt_b4 {G : ai_G} {d M : Nat} {h0 : ai_H} (s : mS) (v1 : Int32) (b0 : Int32) (J : JV × JV × JV) : Tj G (d + 1) 139 (Pfm_loadsAt_b4 G d M h0 s v1) (some (.inr b0)) 44 [J.1.1, J.2.1.1, some (.int b0), J.2.2.1] [] (mH M s h0) := tq_exit J rfl rfl
theorem wfm_loadsAt_j31 {G : ai_G} {d M : Nat} {h0 : ai_H} (j2 : JV)   (s : mS) (v1 : Int32) (v3 : Int32) (t0 : Int32) (t1 : Int32): Tj G (d + 1) 139 (Pfm_loadsAt_b4 G d M h0 s v1) (fm_loadsAt_j31 s v1 v3 t0 t1) 31 [some (.ref M), some (.int v1), j2.1, some (.int v3)] [.int t1, .int t0] (mH M s h0) := by
  unfold fm_loadsAt_j31
  refine ts_c1_i dX8_loadsAt_31 rfl rfl rfl (Nat.le_of_ble_eq_true rfl) (wfm_truth (d := d) _) (fun p31 => ?_)
  refine tq_iload_n dX8_loadsAt_34 rfl ?_
  refine tq_ishl dX8_loadsAt_35 ?_
  refine tq_ior dX8_loadsAt_36 ?_
  refine tq_istore_n (L' := [_, _, _, _]) dX8_loadsAt_37 (Nat.le_of_ble_eq_true rfl) rfl ?_
  refine tq_iinc (v := (v3 + 1)) (L' := [_, _, _, _]) dX8_loadsAt_38 rfl (Nat.le_of_ble_eq_true rfl) rfl rfl ?_
  refine tq_goto dX8_loadsAt_41 rfl ?_
  exact Bfm_loadsAt_b4 _ _ _ _ ()
theorem wfm_loadsAt_b4 {G : ai_G} {d M : Nat} {h0 : ai_H} (s : mS) (v1 : Int32) (q : Int32 × Int32) (J : Unit) : Tj G (d + 1) 139 (Pfm_loadsAt_b4 G d M h0 s v1) (fm_loadsAt_b4 s v1 q) 4 [some (.ref M), some (.int v1), some (.int q.1), some (.int q.2)] [] (mH M s h0) := by
  unfold fm_loadsAt_b4
  refine tq_iload_n dX8_loadsAt_4 rfl ?_
  refine tq_aload_n dX8_loadsAt_5 rfl ?_
  refine tm_gi (k9 := 49) dX8_loadsAt_6 rfl rfl ?_
  refine tq_icmp_ge dX8_loadsAt_9 rfl ?_ ?_
  · exact Efm_loadsAt_b4 _ _ _ (⟨some (.ref M), rfl⟩, ⟨some (.int v1), rfl⟩, ⟨some (.int q.2), rfl⟩)
  · refine tq_iload_n dX8_loadsAt_12 rfl ?_
    refine tq_aload_n dX8_loadsAt_13 rfl ?_
    refine tm_ga (j := 23) dX8_loadsAt_14 rfl rfl ?_
    refine tq_bipush (v := 20) dX8_loadsAt_17 (by decide) ?_
    refine tq_iload_n dX8_loadsAt_19 rfl ?_
    refine tq_iadd dX8_loadsAt_20 ?_
    refine tm_ild dX8_loadsAt_21 rfl (fun x21 => ?_)
    refine tq_iload_n dX8_loadsAt_22 rfl ?_
    refine tq_icmp_ne dX8_loadsAt_23 rfl ?_ ?_
    · refine tq_iconst (v := 0) dX8_loadsAt_30 (by decide) ?_
      exact wfm_loadsAt_j31 ⟨some (.int q.1), rfl⟩ _ _ _ _ _
    · refine tq_iconst (v := 1) dX8_loadsAt_26 (by decide) ?_
      refine tq_goto dX8_loadsAt_27 rfl ?_
      exact wfm_loadsAt_j31 ⟨some (.int q.1), rfl⟩ _ _ _ _ _
theorem Sfm_loadsAt_b4 {G : ai_G} {d M : Nat} {h0 : ai_H} {α : Type} {P : α → Option ai_R → Prop} (s : mS) (v1 : Int32) (b0 : Int32) (b1 : Int32) (J : Unit) {r : Int32 → Option α} (kk : ∀ (q : Int32) (J : JV × JV × JV), Tj G (d + 1) 139 P (r q) 44 [J.1.1, J.2.1.1, some (.int q), J.2.2.1] [] (mH M s h0)) : Tj G (d + 1) 139 P ((lp (fm_loadsAt_b4 s v1) (b0, b1)).bind r) 4 [some (.ref M), some (.int v1), some (.int b0), some (.int b1)] [] (mH M s h0) := tq_lp1 (J := J) (fun q J => wfm_loadsAt_b4 s v1 q J) rfl rfl kk
theorem wfm_loadsAt {G : ai_G} {d M : Nat} {h0 : ai_H} (s : mS) (v1 : Int32) : ∀ r, fm_loadsAt s v1 = some r → (Pi (mH M s h0)) r (ai_call G (d + 2) 139 [.ref M, .int v1] (mH M s h0)) := by
  refine tq_meth (P := (Pi (mH M s h0))) (d := (d + 1)) (Nat.le_of_ble_eq_true rfl) ?_
  show Tj G (d + 1) 139 (Pi (mH M s h0)) (fm_loadsAt s v1) 0 [some (.ref M), some (.int v1), none, none] [] (mH M s h0)
  unfold fm_loadsAt
  refine tq_iconst (v := 0) dX8_loadsAt_0 (by decide) ?_
  refine tq_istore_n (L' := [_, _, _, _]) dX8_loadsAt_1 (Nat.le_of_ble_eq_true rfl) rfl ?_
  refine tq_iconst (v := 0) dX8_loadsAt_2 (by decide) ?_
  refine tq_istore_n (L' := [_, _, _, _]) dX8_loadsAt_3 (Nat.le_of_ble_eq_true rfl) rfl ?_
  refine Sfm_loadsAt_b4 _ _ _ _ () (fun q4 J4 => ?_)
  refine tq_iload_n dX8_loadsAt_44 rfl ?_
  exact tq_ireturn dX8_loadsAt_45 rfl rfl
theorem wfm_board {G : ai_G} {d M : Nat} {h0 : ai_H} (s : mS) (v1 : Int32) (v2 : Int32) : ∀ r, fm_board s v1 v2 = some r → (PmI M h0) r (ai_call G (d + 3) 140 [.ref M, .int v1, .int v2] (mH M s h0)) := by
  refine tq_meth (P := (PmI M h0)) (d := (d + 2)) (Nat.le_of_ble_eq_true rfl) ?_
  show Tj G (d + 2) 140 (PmI M h0) (fm_board s v1 v2) 0 [some (.ref M), some (.int v1), some (.int v2)] [] (mH M s h0)
  unfold fm_board
  refine tq_aload_n dX8_board_0 rfl ?_
  refine tq_iload_n dX8_board_1 rfl ?_
  refine tm_c1_i dX8_board_2 rfl rfl rfl (Nat.le_of_ble_eq_true rfl) (wfm_isBoard (d := d) _ _) (fun p2 => ?_)
  refine tq_if_ne dX8_board_5 rfl ?_ ?_
  · refine tq_aload_n dX8_board_10 rfl ?_
    refine tm_c0_V dX8_board_11 rfl rfl rfl (Nat.le_of_ble_eq_true rfl) (wfm_fill (d := d + 1) _) (fun p11 => ?_)
    refine tq_iload_n dX8_board_14 rfl ?_
    refine tq_case (fun c0 => ?_) (fun c0 => ?_)
    · rw [c0]
      refine tq_tsw (t := 64) dX8_board_15 (off := 49) (by decide) (by decide) ?_
      refine tq_aload_n dX8_board_64 rfl ?_
      refine tm_ga (j := 23) dX8_board_65 rfl rfl ?_
      refine tq_iload_n dX8_board_68 rfl ?_
      refine tm_ild dX8_board_69 rfl (fun x69 => ?_)
      exact tq_ireturn dX8_board_70 rfl rfl
    refine tq_case (fun c1 => ?_) (fun c1 => ?_)
    · rw [c1]
      refine tq_tsw (t := 71) dX8_board_15 (off := 56) (by decide) (by decide) ?_
      refine tq_aload_n dX8_board_71 rfl ?_
      refine tm_ga (j := 23) dX8_board_72 rfl rfl ?_
      refine tq_iconst (v := 4) dX8_board_75 (by decide) ?_
      refine tq_iload_n dX8_board_76 rfl ?_
      refine tq_iadd dX8_board_77 ?_
      refine tm_ild dX8_board_78 rfl (fun x78 => ?_)
      exact tq_ireturn dX8_board_79 rfl rfl
    refine tq_case (fun c2 => ?_) (fun c2 => ?_)
    · rw [c2]
      refine tq_tsw (t := 80) dX8_board_15 (off := 65) (by decide) (by decide) ?_
      refine tq_aload_n dX8_board_80 rfl ?_
      refine tm_ga (j := 23) dX8_board_81 rfl rfl ?_
      refine tq_bipush (v := 8) dX8_board_84 (by decide) ?_
      refine tq_iload_n dX8_board_86 rfl ?_
      refine tq_iadd dX8_board_87 ?_
      refine tm_ild dX8_board_88 rfl (fun x88 => ?_)
      exact tq_ireturn dX8_board_89 rfl rfl
    refine tq_case (fun c3 => ?_) (fun c3 => ?_)
    · rw [c3]
      refine tq_tsw (t := 90) dX8_board_15 (off := 75) (by decide) (by decide) ?_
      refine tq_aload_n dX8_board_90 rfl ?_
      refine tm_ga (j := 23) dX8_board_91 rfl rfl ?_
      refine tq_bipush (v := 12) dX8_board_94 (by decide) ?_
      refine tq_iload_n dX8_board_96 rfl ?_
      refine tq_iadd dX8_board_97 ?_
      refine tm_ild dX8_board_98 rfl (fun x98 => ?_)
      exact tq_ireturn dX8_board_99 rfl rfl
    refine tq_case (fun c4 => ?_) (fun c4 => ?_)
    · rw [c4]
      refine tq_tsw (t := 100) dX8_board_15 (off := 85) (by decide) (by decide) ?_
      refine tq_aload_n dX8_board_100 rfl ?_
      refine tm_ga (j := 23) dX8_board_101 rfl rfl ?_
      refine tq_bipush (v := 16) dX8_board_104 (by decide) ?_
      refine tq_iload_n dX8_board_106 rfl ?_
      refine tq_iadd dX8_board_107 ?_
      refine tm_ild dX8_board_108 rfl (fun x108 => ?_)
      exact tq_ireturn dX8_board_109 rfl rfl
    refine tq_case (fun c5 => ?_) (fun c5 => ?_)
    · rw [c5]
      refine tq_tsw (t := 110) dX8_board_15 (off := 95) (by decide) (by decide) ?_
      refine tq_aload_n dX8_board_110 rfl ?_
      refine tm_ga (j := 18) dX8_board_111 rfl rfl ?_
      refine tq_iload_n dX8_board_114 rfl ?_
      refine tm_ild dX8_board_115 rfl (fun x115 => ?_)
      exact tq_ireturn dX8_board_116 rfl rfl
    refine tq_case (fun c6 => ?_) (fun c6 => ?_)
    · rw [c6]
      refine tq_tsw (t := 117) dX8_board_15 (off := 102) (by decide) (by decide) ?_
      refine tq_aload_n dX8_board_117 rfl ?_
      refine tm_ga (j := 20) dX8_board_118 rfl rfl ?_
      refine tq_iload_n dX8_board_121 rfl ?_
      refine tm_ild dX8_board_122 rfl (fun x122 => ?_)
      exact tq_ireturn dX8_board_123 rfl rfl
    refine tq_case (fun c7 => ?_) (fun c7 => ?_)
    · rw [c7]
      refine tq_tsw (t := 124) dX8_board_15 (off := 109) (by decide) (by decide) ?_
      refine tq_aload_n dX8_board_124 rfl ?_
      refine tq_iload_n dX8_board_125 rfl ?_
      refine tm_c1_i dX8_board_126 rfl rfl rfl (Nat.le_of_ble_eq_true rfl) (wfm_burdenOf (d := d + 1) _ _) (fun p126 => ?_)
      exact tq_ireturn dX8_board_129 rfl rfl
    refine tq_case (fun c8 => ?_) (fun c8 => ?_)
    · rw [c8]
      refine tq_tsw (t := 130) dX8_board_15 (off := 115) (by decide) (by decide) ?_
      refine tq_aload_n dX8_board_130 rfl ?_
      refine tq_iload_n dX8_board_131 rfl ?_
      refine tm_c1_i dX8_board_132 rfl rfl rfl (Nat.le_of_ble_eq_true rfl) (wfm_loadsAt (d := d) _ _) (fun p132 => ?_)
      exact tq_ireturn dX8_board_135 rfl rfl
    refine tq_tsw (t := 136) dX8_board_15 (tsw_d (ks := [0, 1, 2, 3, 4, 5, 6, 7, 8]) (by decide) (by simp only [List.mem_cons, List.not_mem_nil, or_false]; rintro k (rfl | rfl | rfl | rfl | rfl | rfl | rfl | rfl | rfl) <;> assumption)) (by decide) ?_
    refine tq_iconst (v := (-1)) dX8_board_136 (by decide) ?_
    exact tq_ireturn dX8_board_137 rfl rfl
  · refine tq_iconst (v := (-1)) dX8_board_8 (by decide) ?_
    exact tq_ireturn dX8_board_9 rfl rfl
theorem wfm_isLoad {G : ai_G} {d M : Nat} {h0 : ai_H} (s : mS) (v1 : Int32) : ∀ r, fm_isLoad s v1 = some r → (Pi (mH M s h0)) r (ai_call G (d + 2) 144 [.ref M, .int v1] (mH M s h0)) := by
  refine tq_meth (P := (Pi (mH M s h0))) (d := (d + 1)) (Nat.le_of_ble_eq_true rfl) ?_
  show Tj G (d + 1) 144 (Pi (mH M s h0)) (fm_isLoad s v1) 0 [some (.ref M), some (.int v1)] [] (mH M s h0)
  unfold fm_isLoad
  refine tq_iload_n dX8_isLoad_0 rfl ?_
  refine tq_iconst (v := 0) dX8_isLoad_1 (by decide) ?_
  refine tq_aload_n dX8_isLoad_2 rfl ?_
  refine tm_gi (k9 := 49) dX8_isLoad_3 rfl rfl ?_
  refine tq_iconst (v := 1) dX8_isLoad_6 (by decide) ?_
  refine tq_isub dX8_isLoad_7 ?_
  refine ts_c3_i dX8_isLoad_8 rfl rfl rfl (Nat.le_of_ble_eq_true rfl) (wfm_isIn (d := d) _ _ _) (fun p8 => ?_)
  exact tq_iretB dX8_isLoad_11 rfl rfl rfl
theorem wfm_load {G : ai_G} {d M : Nat} {h0 : ai_H} (s : mS) (v1 : Int32) (v2 : Int32) : ∀ r, fm_load s v1 v2 = some r → (Pi (mH M s h0)) r (ai_call G (d + 3) 145 [.ref M, .int v1, .int v2] (mH M s h0)) := by
  refine tq_meth (P := (Pi (mH M s h0))) (d := (d + 2)) (Nat.le_of_ble_eq_true rfl) ?_
  show Tj G (d + 2) 145 (Pi (mH M s h0)) (fm_load s v1 v2) 0 [some (.ref M), some (.int v1), some (.int v2)] [] (mH M s h0)
  unfold fm_load
  refine tq_aload_n dX8_load_0 rfl ?_
  refine tq_iload_n dX8_load_1 rfl ?_
  refine tm_c1_i dX8_load_2 rfl rfl rfl (Nat.le_of_ble_eq_true rfl) (wfm_isLoad (d := d) _ _) (fun p2 => ?_)
  refine tq_if_eq dX8_load_5 rfl ?_ ?_
  · refine tq_bipush (v := (-3)) dX8_load_17 (by decide) ?_
    refine tq_goto dX8_load_19 rfl ?_
    exact tq_ireturn dX8_load_44 rfl rfl
  · refine tq_iload_n dX8_load_8 rfl ?_
    refine tq_iconst (v := 0) dX8_load_9 (by decide) ?_
    refine tq_iconst (v := 1) dX8_load_10 (by decide) ?_
    refine ts_c3_i dX8_load_11 rfl rfl rfl (Nat.le_of_ble_eq_true rfl) (wfm_isIn (d := d + 1) _ _ _) (fun p11 => ?_)
    refine tq_if_ne dX8_load_14 rfl ?_ ?_
    · refine tq_iload_n dX8_load_22 rfl ?_
      refine tq_if_ne dX8_load_23 rfl ?_ ?_
      · refine tq_aload_n dX8_load_35 rfl ?_
        refine tm_ga (j := 22) dX8_load_36 rfl rfl ?_
        refine tq_bipush (v := 20) dX8_load_39 (by decide) ?_
        refine tq_iload_n dX8_load_41 rfl ?_
        refine tq_iadd dX8_load_42 ?_
        refine tm_ild dX8_load_43 rfl (fun x43 => ?_)
        exact tq_ireturn dX8_load_44 rfl rfl
      · refine tq_aload_n dX8_load_26 rfl ?_
        refine tm_ga (j := 21) dX8_load_27 rfl rfl ?_
        refine tq_iload_n dX8_load_30 rfl ?_
        refine tm_ild dX8_load_31 rfl (fun x31 => ?_)
        refine tq_goto dX8_load_32 rfl ?_
        exact tq_ireturn dX8_load_44 rfl rfl
    · refine tq_bipush (v := (-3)) dX8_load_17 (by decide) ?_
      refine tq_goto dX8_load_19 rfl ?_
      exact tq_ireturn dX8_load_44 rfl rfl
theorem wfm_currentAt {G : ai_G} {d M : Nat} {h0 : ai_H} (s : mS) (v1 : Int32) (v2 : Int32) : ∀ r, fm_currentAt s v1 v2 = some r → (Pi (mH M s h0)) r (ai_call G (d + 1) 147 [.ref M, .int v1, .int v2] (mH M s h0)) := by
  refine tq_meth (P := (Pi (mH M s h0))) (d := d) (Nat.le_of_ble_eq_true rfl) ?_
  show Tj G d 147 (Pi (mH M s h0)) (fm_currentAt s v1 v2) 0 [some (.ref M), some (.int v1), some (.int v2)] [] (mH M s h0)
  unfold fm_currentAt
  refine tq_aload_n dX8_currentAt_0 rfl ?_
  refine tm_ga (j := 16) dX8_currentAt_1 rfl rfl ?_
  refine tq_bipush (v := 8) dX8_currentAt_4 (by decide) ?_
  refine tq_iload_n dX8_currentAt_6 rfl ?_
  refine tq_imul dX8_currentAt_7 ?_
  refine tq_iload_n dX8_currentAt_8 rfl ?_
  refine tq_iadd dX8_currentAt_9 ?_
  refine tm_ild dX8_currentAt_10 rfl (fun x10 => ?_)
  exact tq_ireturn dX8_currentAt_11 rfl rfl
theorem wfm_isIron {G : ai_G} {d M : Nat} {h0 : ai_H} (s : mS) (v1 : Int32) (v2 : Int32) : ∀ r, fm_isIron s v1 v2 = some r → (Pi (mH M s h0)) r (ai_call G (d + 1) 148 [.ref M, .int v1, .int v2] (mH M s h0)) := by
  refine tq_meth (P := (Pi (mH M s h0))) (d := d) (Nat.le_of_ble_eq_true rfl) ?_
  show Tj G d 148 (Pi (mH M s h0)) (fm_isIron s v1 v2) 0 [some (.ref M), some (.int v1), some (.int v2)] [] (mH M s h0)
  unfold fm_isIron
  refine tq_aload_n dX8_isIron_0 rfl ?_
  refine tm_ga (j := 17) dX8_isIron_1 rfl rfl ?_
  refine tq_bipush (v := 8) dX8_isIron_4 (by decide) ?_
  refine tq_iload_n dX8_isIron_6 rfl ?_
  refine tq_imul dX8_isIron_7 ?_
  refine tq_iload_n dX8_isIron_8 rfl ?_
  refine tq_iadd dX8_isIron_9 ?_
  refine tm_ild dX8_isIron_10 rfl (fun x10 => ?_)
  refine tq_iconst (v := 1) dX8_isIron_11 (by decide) ?_
  refine tq_icmp_ne dX8_isIron_12 rfl ?_ ?_
  · refine tq_iconst (v := 0) dX8_isIron_19 (by decide) ?_
    exact tq_ireturn dX8_isIron_20 (by decide) rfl
  · refine tq_iconst (v := 1) dX8_isIron_15 (by decide) ?_
    refine tq_goto dX8_isIron_16 rfl ?_
    exact tq_ireturn dX8_isIron_20 (by decide) rfl
theorem wfm_spot {G : ai_G} {d M : Nat} {h0 : ai_H} (s : mS) (v1 : Int32) (v2 : Int32) (v3 : Int32) : ∀ r, fm_spot s v1 v2 v3 = some r → (Pi (mH M s h0)) r (ai_call G (d + 2) 149 [.ref M, .int v1, .int v2, .int v3] (mH M s h0)) := by
  refine tq_meth (P := (Pi (mH M s h0))) (d := (d + 1)) (Nat.le_of_ble_eq_true rfl) ?_
  show Tj G (d + 1) 149 (Pi (mH M s h0)) (fm_spot s v1 v2 v3) 0 [some (.ref M), some (.int v1), some (.int v2), some (.int v3)] [] (mH M s h0)
  unfold fm_spot
  refine tq_iload_n dX8_spot_0 rfl ?_
  refine tq_iconst (v := 0) dX8_spot_1 (by decide) ?_
  refine tq_aload_n dX8_spot_2 rfl ?_
  refine tm_gi (k9 := 46) dX8_spot_3 rfl rfl ?_
  refine tq_iconst (v := 1) dX8_spot_6 (by decide) ?_
  refine tq_isub dX8_spot_7 ?_
  refine ts_c3_i dX8_spot_8 rfl rfl rfl (Nat.le_of_ble_eq_true rfl) (wfm_isIn (d := d) _ _ _) (fun p8 => ?_)
  refine tq_if_eq dX8_spot_11 rfl ?_ ?_
  · refine tq_iconst (v := (-1)) dX8_spot_35 (by decide) ?_
    exact tq_ireturn dX8_spot_36 rfl rfl
  · refine tq_iload_n dX8_spot_14 rfl ?_
    refine tq_iconst (v := 0) dX8_spot_15 (by decide) ?_
    refine tq_aload_n dX8_spot_16 rfl ?_
    refine tm_gi (k9 := 47) dX8_spot_17 rfl rfl ?_
    refine ts_c3_i dX8_spot_20 rfl rfl rfl (Nat.le_of_ble_eq_true rfl) (wfm_isIn (d := d) _ _ _) (fun p20 => ?_)
    refine tq_if_eq dX8_spot_23 rfl ?_ ?_
    · refine tq_iconst (v := (-1)) dX8_spot_35 (by decide) ?_
      exact tq_ireturn dX8_spot_36 rfl rfl
    · refine tq_iload_n dX8_spot_26 rfl ?_
      refine tq_iconst (v := 0) dX8_spot_27 (by decide) ?_
      refine tq_iconst (v := 1) dX8_spot_28 (by decide) ?_
      refine ts_c3_i dX8_spot_29 rfl rfl rfl (Nat.le_of_ble_eq_true rfl) (wfm_isIn (d := d) _ _ _) (fun p29 => ?_)
      refine tq_if_ne dX8_spot_32 rfl ?_ ?_
      · refine tq_iload_n dX8_spot_37 rfl ?_
        refine tq_if_ne dX8_spot_38 rfl ?_ ?_
        · refine tq_aload_n dX8_spot_50 rfl ?_
          refine tq_iload_n dX8_spot_51 rfl ?_
          refine tq_iload_n dX8_spot_52 rfl ?_
          refine tm_c2_i dX8_spot_53 rfl rfl rfl (Nat.le_of_ble_eq_true rfl) (wfm_isIron (d := d) _ _ _) (fun p53 => ?_)
          refine ts_c1_i dX8_spot_56 rfl rfl rfl (Nat.le_of_ble_eq_true rfl) (wfm_truth (d := d) _) (fun p56 => ?_)
          exact tq_ireturn dX8_spot_59 rfl rfl
        · refine tq_aload_n dX8_spot_41 rfl ?_
          refine tq_iload_n dX8_spot_42 rfl ?_
          refine tq_iload_n dX8_spot_43 rfl ?_
          refine tm_c2_i dX8_spot_44 rfl rfl rfl (Nat.le_of_ble_eq_true rfl) (wfm_currentAt (d := d) _ _ _) (fun p44 => ?_)
          refine tq_goto dX8_spot_47 rfl ?_
          exact tq_ireturn dX8_spot_59 rfl rfl
      · refine tq_iconst (v := (-1)) dX8_spot_35 (by decide) ?_
        exact tq_ireturn dX8_spot_36 rfl rfl

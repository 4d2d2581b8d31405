/-! WALKS of the model: the interpreter does what the functions say (printed by tools/decm.py) -/
set_option maxRecDepth 100000
theorem wfm_done {G : ai_G} {d : Nat} {h : ai_H} (v0 : Int32) (v1 : Int32) (v2 : Int32) : ∀ r, fm_done v0 v1 v2 = some r → (Pi h) r (ai_call G (d + 2) 158 [.int v0, .int v1, .int v2] h) := by
  refine tq_meth (P := (Pi h)) (d := (d + 1)) (Nat.le_of_ble_eq_true rfl) ?_
  show Tj G (d + 1) 158 (Pi h) (fm_done v0 v1 v2) 0 [some (.int v0), some (.int v1), some (.int v2)] [] h
  unfold fm_done
  refine tq_iload_n dX8_done_0 rfl ?_
  refine tq_case (fun c37 => ?_) (fun c37 => ?_)
  · rw [c37]
    refine tq_tsw (t := 144) dX8_done_1 (off := 143) (by decide) (by decide) ?_
    refine tq_iload_n dX8_done_144 rfl ?_
    refine tq_if_ne dX8_done_145 rfl ?_ ?_
    · refine tq_iload_n dX8_done_152 rfl ?_
      refine tq_iload_n dX8_done_153 rfl ?_
      refine tq_irem dX8_done_154 (fun x154 => ?_)
      exact tq_ireturn dX8_done_155 rfl rfl
    · refine tq_iconst (v := 0) dX8_done_148 (by decide) ?_
      refine tq_goto dX8_done_149 rfl ?_
      exact tq_ireturn dX8_done_155 rfl rfl
  refine tq_case (fun c38 => ?_) (fun c38 => ?_)
  · rw [c38]
    refine tq_tsw (t := 198) dX8_done_1 (off := 197) (by decide) (by decide) ?_
    refine tq_iload_n dX8_done_198 rfl ?_
    refine tq_if_eq dX8_done_199 rfl ?_ ?_
    · refine tq_iconst (v := 0) dX8_done_210 (by decide) ?_
      refine ts_c1_i dX8_done_211 rfl rfl rfl (Nat.le_of_ble_eq_true rfl) (wfm_truth (d := d) _) (fun p211 => ?_)
      exact tq_ireturn dX8_done_214 rfl rfl
    · refine tq_iload_n dX8_done_202 rfl ?_
      refine tq_if_eq dX8_done_203 rfl ?_ ?_
      · refine tq_iconst (v := 0) dX8_done_210 (by decide) ?_
        refine ts_c1_i dX8_done_211 rfl rfl rfl (Nat.le_of_ble_eq_true rfl) (wfm_truth (d := d) _) (fun p211 => ?_)
        exact tq_ireturn dX8_done_214 rfl rfl
      · refine tq_iconst (v := 1) dX8_done_206 (by decide) ?_
        refine tq_goto dX8_done_207 rfl ?_
        refine ts_c1_i dX8_done_211 rfl rfl rfl (Nat.le_of_ble_eq_true rfl) (wfm_truth (d := d) _) (fun p211 => ?_)
        exact tq_ireturn dX8_done_214 rfl rfl
  refine tq_case (fun c39 => ?_) (fun c39 => ?_)
  · rw [c39]
    refine tq_tsw (t := 215) dX8_done_1 (off := 214) (by decide) (by decide) ?_
    refine tq_iload_n dX8_done_215 rfl ?_
    refine tq_if_ne dX8_done_216 rfl ?_ ?_
    · refine tq_iconst (v := 1) dX8_done_223 (by decide) ?_
      refine tq_goto dX8_done_224 rfl ?_
      refine ts_c1_i dX8_done_228 rfl rfl rfl (Nat.le_of_ble_eq_true rfl) (wfm_truth (d := d) _) (fun p228 => ?_)
      exact tq_ireturn dX8_done_231 rfl rfl
    · refine tq_iload_n dX8_done_219 rfl ?_
      refine tq_if_eq dX8_done_220 rfl ?_ ?_
      · refine tq_iconst (v := 0) dX8_done_227 (by decide) ?_
        refine ts_c1_i dX8_done_228 rfl rfl rfl (Nat.le_of_ble_eq_true rfl) (wfm_truth (d := d) _) (fun p228 => ?_)
        exact tq_ireturn dX8_done_231 rfl rfl
      · refine tq_iconst (v := 1) dX8_done_223 (by decide) ?_
        refine tq_goto dX8_done_224 rfl ?_
        refine ts_c1_i dX8_done_228 rfl rfl rfl (Nat.le_of_ble_eq_true rfl) (wfm_truth (d := d) _) (fun p228 => ?_)
        exact tq_ireturn dX8_done_231 rfl rfl
  refine tq_case (fun c40 => ?_) (fun c40 => ?_)
  · rw [c40]
    refine tq_tsw (t := 215) dX8_done_1 (off := 214) (by decide) (by decide) ?_
    refine tq_iload_n dX8_done_215 rfl ?_
    refine tq_if_ne dX8_done_216 rfl ?_ ?_
    · refine tq_iconst (v := 1) dX8_done_223 (by decide) ?_
      refine tq_goto dX8_done_224 rfl ?_
      refine ts_c1_i dX8_done_228 rfl rfl rfl (Nat.le_of_ble_eq_true rfl) (wfm_truth (d := d) _) (fun p228 => ?_)
      exact tq_ireturn dX8_done_231 rfl rfl
    · refine tq_iload_n dX8_done_219 rfl ?_
      refine tq_if_eq dX8_done_220 rfl ?_ ?_
      · refine tq_iconst (v := 0) dX8_done_227 (by decide) ?_
        refine ts_c1_i dX8_done_228 rfl rfl rfl (Nat.le_of_ble_eq_true rfl) (wfm_truth (d := d) _) (fun p228 => ?_)
        exact tq_ireturn dX8_done_231 rfl rfl
      · refine tq_iconst (v := 1) dX8_done_223 (by decide) ?_
        refine tq_goto dX8_done_224 rfl ?_
        refine ts_c1_i dX8_done_228 rfl rfl rfl (Nat.le_of_ble_eq_true rfl) (wfm_truth (d := d) _) (fun p228 => ?_)
        exact tq_ireturn dX8_done_231 rfl rfl
  refine tq_case (fun c41 => ?_) (fun c41 => ?_)
  · rw [c41]
    refine tq_tsw (t := 215) dX8_done_1 (off := 214) (by decide) (by decide) ?_
    refine tq_iload_n dX8_done_215 rfl ?_
    refine tq_if_ne dX8_done_216 rfl ?_ ?_
    · refine tq_iconst (v := 1) dX8_done_223 (by decide) ?_
      refine tq_goto dX8_done_224 rfl ?_
      refine ts_c1_i dX8_done_228 rfl rfl rfl (Nat.le_of_ble_eq_true rfl) (wfm_truth (d := d) _) (fun p228 => ?_)
      exact tq_ireturn dX8_done_231 rfl rfl
    · refine tq_iload_n dX8_done_219 rfl ?_
      refine tq_if_eq dX8_done_220 rfl ?_ ?_
      · refine tq_iconst (v := 0) dX8_done_227 (by decide) ?_
        refine ts_c1_i dX8_done_228 rfl rfl rfl (Nat.le_of_ble_eq_true rfl) (wfm_truth (d := d) _) (fun p228 => ?_)
        exact tq_ireturn dX8_done_231 rfl rfl
      · refine tq_iconst (v := 1) dX8_done_223 (by decide) ?_
        refine tq_goto dX8_done_224 rfl ?_
        refine ts_c1_i dX8_done_228 rfl rfl rfl (Nat.le_of_ble_eq_true rfl) (wfm_truth (d := d) _) (fun p228 => ?_)
        exact tq_ireturn dX8_done_231 rfl rfl
  refine tq_case (fun c42 => ?_) (fun c42 => ?_)
  · rw [c42]
    refine tq_tsw (t := 128) dX8_done_1 (off := 127) (by decide) (by decide) ?_
    refine tq_iload_n dX8_done_128 rfl ?_
    refine tq_iload_n dX8_done_129 rfl ?_
    refine tq_imul dX8_done_130 ?_
    exact tq_ireturn dX8_done_131 rfl rfl
  refine tq_case (fun c43 => ?_) (fun c43 => ?_)
  · rw [c43]
    refine tq_tsw (t := 120) dX8_done_1 (off := 119) (by decide) (by decide) ?_
    refine tq_iload_n dX8_done_120 rfl ?_
    refine tq_iload_n dX8_done_121 rfl ?_
    refine tq_iadd dX8_done_122 ?_
    exact tq_ireturn dX8_done_123 rfl rfl
  refine tq_case (fun c44 => ?_) (fun c44 => ?_)
  · rw [c44]
    refine tq_tsw (t := 215) dX8_done_1 (off := 214) (by decide) (by decide) ?_
    refine tq_iload_n dX8_done_215 rfl ?_
    refine tq_if_ne dX8_done_216 rfl ?_ ?_
    · refine tq_iconst (v := 1) dX8_done_223 (by decide) ?_
      refine tq_goto dX8_done_224 rfl ?_
      refine ts_c1_i dX8_done_228 rfl rfl rfl (Nat.le_of_ble_eq_true rfl) (wfm_truth (d := d) _) (fun p228 => ?_)
      exact tq_ireturn dX8_done_231 rfl rfl
    · refine tq_iload_n dX8_done_219 rfl ?_
      refine tq_if_eq dX8_done_220 rfl ?_ ?_
      · refine tq_iconst (v := 0) dX8_done_227 (by decide) ?_
        refine ts_c1_i dX8_done_228 rfl rfl rfl (Nat.le_of_ble_eq_true rfl) (wfm_truth (d := d) _) (fun p228 => ?_)
        exact tq_ireturn dX8_done_231 rfl rfl
      · refine tq_iconst (v := 1) dX8_done_223 (by decide) ?_
        refine tq_goto dX8_done_224 rfl ?_
        refine ts_c1_i dX8_done_228 rfl rfl rfl (Nat.le_of_ble_eq_true rfl) (wfm_truth (d := d) _) (fun p228 => ?_)
        exact tq_ireturn dX8_done_231 rfl rfl
  refine tq_case (fun c45 => ?_) (fun c45 => ?_)
  · rw [c45]
    refine tq_tsw (t := 124) dX8_done_1 (off := 123) (by decide) (by decide) ?_
    refine tq_iload_n dX8_done_124 rfl ?_
    refine tq_iload_n dX8_done_125 rfl ?_
    refine tq_isub dX8_done_126 ?_
    exact tq_ireturn dX8_done_127 rfl rfl
  refine tq_case (fun c46 => ?_) (fun c46 => ?_)
  · rw [c46]
    refine tq_tsw (t := 215) dX8_done_1 (off := 214) (by decide) (by decide) ?_
    refine tq_iload_n dX8_done_215 rfl ?_
    refine tq_if_ne dX8_done_216 rfl ?_ ?_
    · refine tq_iconst (v := 1) dX8_done_223 (by decide) ?_
      refine tq_goto dX8_done_224 rfl ?_
      refine ts_c1_i dX8_done_228 rfl rfl rfl (Nat.le_of_ble_eq_true rfl) (wfm_truth (d := d) _) (fun p228 => ?_)
      exact tq_ireturn dX8_done_231 rfl rfl
    · refine tq_iload_n dX8_done_219 rfl ?_
      refine tq_if_eq dX8_done_220 rfl ?_ ?_
      · refine tq_iconst (v := 0) dX8_done_227 (by decide) ?_
        refine ts_c1_i dX8_done_228 rfl rfl rfl (Nat.le_of_ble_eq_true rfl) (wfm_truth (d := d) _) (fun p228 => ?_)
        exact tq_ireturn dX8_done_231 rfl rfl
      · refine tq_iconst (v := 1) dX8_done_223 (by decide) ?_
        refine tq_goto dX8_done_224 rfl ?_
        refine ts_c1_i dX8_done_228 rfl rfl rfl (Nat.le_of_ble_eq_true rfl) (wfm_truth (d := d) _) (fun p228 => ?_)
        exact tq_ireturn dX8_done_231 rfl rfl
  refine tq_case (fun c47 => ?_) (fun c47 => ?_)
  · rw [c47]
    refine tq_tsw (t := 132) dX8_done_1 (off := 131) (by decide) (by decide) ?_
    refine tq_iload_n dX8_done_132 rfl ?_
    refine tq_if_ne dX8_done_133 rfl ?_ ?_
    · refine tq_iload_n dX8_done_140 rfl ?_
      refine tq_iload_n dX8_done_141 rfl ?_
      refine tq_idiv dX8_done_142 (fun x142 => ?_)
      exact tq_ireturn dX8_done_143 rfl rfl
    · refine tq_iconst (v := 0) dX8_done_136 (by decide) ?_
      refine tq_goto dX8_done_137 rfl ?_
      exact tq_ireturn dX8_done_143 rfl rfl
  refine tq_case (fun c48 => ?_) (fun c48 => ?_)
  · rw [c48]
    refine tq_tsw (t := 215) dX8_done_1 (off := 214) (by decide) (by decide) ?_
    refine tq_iload_n dX8_done_215 rfl ?_
    refine tq_if_ne dX8_done_216 rfl ?_ ?_
    · refine tq_iconst (v := 1) dX8_done_223 (by decide) ?_
      refine tq_goto dX8_done_224 rfl ?_
      refine ts_c1_i dX8_done_228 rfl rfl rfl (Nat.le_of_ble_eq_true rfl) (wfm_truth (d := d) _) (fun p228 => ?_)
      exact tq_ireturn dX8_done_231 rfl rfl
    · refine tq_iload_n dX8_done_219 rfl ?_
      refine tq_if_eq dX8_done_220 rfl ?_ ?_
      · refine tq_iconst (v := 0) dX8_done_227 (by decide) ?_
        refine ts_c1_i dX8_done_228 rfl rfl rfl (Nat.le_of_ble_eq_true rfl) (wfm_truth (d := d) _) (fun p228 => ?_)
        exact tq_ireturn dX8_done_231 rfl rfl
      · refine tq_iconst (v := 1) dX8_done_223 (by decide) ?_
        refine tq_goto dX8_done_224 rfl ?_
        refine ts_c1_i dX8_done_228 rfl rfl rfl (Nat.le_of_ble_eq_true rfl) (wfm_truth (d := d) _) (fun p228 => ?_)
        exact tq_ireturn dX8_done_231 rfl rfl
  refine tq_case (fun c49 => ?_) (fun c49 => ?_)
  · rw [c49]
    refine tq_tsw (t := 215) dX8_done_1 (off := 214) (by decide) (by decide) ?_
    refine tq_iload_n dX8_done_215 rfl ?_
    refine tq_if_ne dX8_done_216 rfl ?_ ?_
    · refine tq_iconst (v := 1) dX8_done_223 (by decide) ?_
      refine tq_goto dX8_done_224 rfl ?_
      refine ts_c1_i dX8_done_228 rfl rfl rfl (Nat.le_of_ble_eq_true rfl) (wfm_truth (d := d) _) (fun p228 => ?_)
      exact tq_ireturn dX8_done_231 rfl rfl
    · refine tq_iload_n dX8_done_219 rfl ?_
      refine tq_if_eq dX8_done_220 rfl ?_ ?_
      · refine tq_iconst (v := 0) dX8_done_227 (by decide) ?_
        refine ts_c1_i dX8_done_228 rfl rfl rfl (Nat.le_of_ble_eq_true rfl) (wfm_truth (d := d) _) (fun p228 => ?_)
        exact tq_ireturn dX8_done_231 rfl rfl
      · refine tq_iconst (v := 1) dX8_done_223 (by decide) ?_
        refine tq_goto dX8_done_224 rfl ?_
        refine ts_c1_i dX8_done_228 rfl rfl rfl (Nat.le_of_ble_eq_true rfl) (wfm_truth (d := d) _) (fun p228 => ?_)
        exact tq_ireturn dX8_done_231 rfl rfl
  refine tq_case (fun c50 => ?_) (fun c50 => ?_)
  · rw [c50]
    refine tq_tsw (t := 215) dX8_done_1 (off := 214) (by decide) (by decide) ?_
    refine tq_iload_n dX8_done_215 rfl ?_
    refine tq_if_ne dX8_done_216 rfl ?_ ?_
    · refine tq_iconst (v := 1) dX8_done_223 (by decide) ?_
      refine tq_goto dX8_done_224 rfl ?_
      refine ts_c1_i dX8_done_228 rfl rfl rfl (Nat.le_of_ble_eq_true rfl) (wfm_truth (d := d) _) (fun p228 => ?_)
      exact tq_ireturn dX8_done_231 rfl rfl
    · refine tq_iload_n dX8_done_219 rfl ?_
      refine tq_if_eq dX8_done_220 rfl ?_ ?_
      · refine tq_iconst (v := 0) dX8_done_227 (by decide) ?_
        refine ts_c1_i dX8_done_228 rfl rfl rfl (Nat.le_of_ble_eq_true rfl) (wfm_truth (d := d) _) (fun p228 => ?_)
        exact tq_ireturn dX8_done_231 rfl rfl
      · refine tq_iconst (v := 1) dX8_done_223 (by decide) ?_
        refine tq_goto dX8_done_224 rfl ?_
        refine ts_c1_i dX8_done_228 rfl rfl rfl (Nat.le_of_ble_eq_true rfl) (wfm_truth (d := d) _) (fun p228 => ?_)
        exact tq_ireturn dX8_done_231 rfl rfl
  refine tq_case (fun c51 => ?_) (fun c51 => ?_)
  · rw [c51]
    refine tq_tsw (t := 215) dX8_done_1 (off := 214) (by decide) (by decide) ?_
    refine tq_iload_n dX8_done_215 rfl ?_
    refine tq_if_ne dX8_done_216 rfl ?_ ?_
    · refine tq_iconst (v := 1) dX8_done_223 (by decide) ?_
      refine tq_goto dX8_done_224 rfl ?_
      refine ts_c1_i dX8_done_228 rfl rfl rfl (Nat.le_of_ble_eq_true rfl) (wfm_truth (d := d) _) (fun p228 => ?_)
      exact tq_ireturn dX8_done_231 rfl rfl
    · refine tq_iload_n dX8_done_219 rfl ?_
      refine tq_if_eq dX8_done_220 rfl ?_ ?_
      · refine tq_iconst (v := 0) dX8_done_227 (by decide) ?_
        refine ts_c1_i dX8_done_228 rfl rfl rfl (Nat.le_of_ble_eq_true rfl) (wfm_truth (d := d) _) (fun p228 => ?_)
        exact tq_ireturn dX8_done_231 rfl rfl
      · refine tq_iconst (v := 1) dX8_done_223 (by decide) ?_
        refine tq_goto dX8_done_224 rfl ?_
        refine ts_c1_i dX8_done_228 rfl rfl rfl (Nat.le_of_ble_eq_true rfl) (wfm_truth (d := d) _) (fun p228 => ?_)
        exact tq_ireturn dX8_done_231 rfl rfl
  refine tq_case (fun c52 => ?_) (fun c52 => ?_)
  · rw [c52]
    refine tq_tsw (t := 215) dX8_done_1 (off := 214) (by decide) (by decide) ?_
    refine tq_iload_n dX8_done_215 rfl ?_
    refine tq_if_ne dX8_done_216 rfl ?_ ?_
    · refine tq_iconst (v := 1) dX8_done_223 (by decide) ?_
      refine tq_goto dX8_done_224 rfl ?_
      refine ts_c1_i dX8_done_228 rfl rfl rfl (Nat.le_of_ble_eq_true rfl) (wfm_truth (d := d) _) (fun p228 => ?_)
      exact tq_ireturn dX8_done_231 rfl rfl
    · refine tq_iload_n dX8_done_219 rfl ?_
      refine tq_if_eq dX8_done_220 rfl ?_ ?_
      · refine tq_iconst (v := 0) dX8_done_227 (by decide) ?_
        refine ts_c1_i dX8_done_228 rfl rfl rfl (Nat.le_of_ble_eq_true rfl) (wfm_truth (d := d) _) (fun p228 => ?_)
        exact tq_ireturn dX8_done_231 rfl rfl
      · refine tq_iconst (v := 1) dX8_done_223 (by decide) ?_
        refine tq_goto dX8_done_224 rfl ?_
        refine ts_c1_i dX8_done_228 rfl rfl rfl (Nat.le_of_ble_eq_true rfl) (wfm_truth (d := d) _) (fun p228 => ?_)
        exact tq_ireturn dX8_done_231 rfl rfl
  refine tq_case (fun c53 => ?_) (fun c53 => ?_)
  · rw [c53]
    refine tq_tsw (t := 215) dX8_done_1 (off := 214) (by decide) (by decide) ?_
    refine tq_iload_n dX8_done_215 rfl ?_
    refine tq_if_ne dX8_done_216 rfl ?_ ?_
    · refine tq_iconst (v := 1) dX8_done_223 (by decide) ?_
      refine tq_goto dX8_done_224 rfl ?_
      refine ts_c1_i dX8_done_228 rfl rfl rfl (Nat.le_of_ble_eq_true rfl) (wfm_truth (d := d) _) (fun p228 => ?_)
      exact tq_ireturn dX8_done_231 rfl rfl
    · refine tq_iload_n dX8_done_219 rfl ?_
      refine tq_if_eq dX8_done_220 rfl ?_ ?_
      · refine tq_iconst (v := 0) dX8_done_227 (by decide) ?_
        refine ts_c1_i dX8_done_228 rfl rfl rfl (Nat.le_of_ble_eq_true rfl) (wfm_truth (d := d) _) (fun p228 => ?_)
        exact tq_ireturn dX8_done_231 rfl rfl
      · refine tq_iconst (v := 1) dX8_done_223 (by decide) ?_
        refine tq_goto dX8_done_224 rfl ?_
        refine ts_c1_i dX8_done_228 rfl rfl rfl (Nat.le_of_ble_eq_true rfl) (wfm_truth (d := d) _) (fun p228 => ?_)
        exact tq_ireturn dX8_done_231 rfl rfl
  refine tq_case (fun c54 => ?_) (fun c54 => ?_)
  · rw [c54]
    refine tq_tsw (t := 215) dX8_done_1 (off := 214) (by decide) (by decide) ?_
    refine tq_iload_n dX8_done_215 rfl ?_
    refine tq_if_ne dX8_done_216 rfl ?_ ?_
    · refine tq_iconst (v := 1) dX8_done_223 (by decide) ?_
      refine tq_goto dX8_done_224 rfl ?_
      refine ts_c1_i dX8_done_228 rfl rfl rfl (Nat.le_of_ble_eq_true rfl) (wfm_truth (d := d) _) (fun p228 => ?_)
      exact tq_ireturn dX8_done_231 rfl rfl
    · refine tq_iload_n dX8_done_219 rfl ?_
      refine tq_if_eq dX8_done_220 rfl ?_ ?_
      · refine tq_iconst (v := 0) dX8_done_227 (by decide) ?_
        refine ts_c1_i dX8_done_228 rfl rfl rfl (Nat.le_of_ble_eq_true rfl) (wfm_truth (d := d) _) (fun p228 => ?_)
        exact tq_ireturn dX8_done_231 rfl rfl
      · refine tq_iconst (v := 1) dX8_done_223 (by decide) ?_
        refine tq_goto dX8_done_224 rfl ?_
        refine ts_c1_i dX8_done_228 rfl rfl rfl (Nat.le_of_ble_eq_true rfl) (wfm_truth (d := d) _) (fun p228 => ?_)
        exact tq_ireturn dX8_done_231 rfl rfl
  refine tq_case (fun c55 => ?_) (fun c55 => ?_)
  · rw [c55]
    refine tq_tsw (t := 215) dX8_done_1 (off := 214) (by decide) (by decide) ?_
    refine tq_iload_n dX8_done_215 rfl ?_
    refine tq_if_ne dX8_done_216 rfl ?_ ?_
    · refine tq_iconst (v := 1) dX8_done_223 (by decide) ?_
      refine tq_goto dX8_done_224 rfl ?_
      refine ts_c1_i dX8_done_228 rfl rfl rfl (Nat.le_of_ble_eq_true rfl) (wfm_truth (d := d) _) (fun p228 => ?_)
      exact tq_ireturn dX8_done_231 rfl rfl
    · refine tq_iload_n dX8_done_219 rfl ?_
      refine tq_if_eq dX8_done_220 rfl ?_ ?_
      · refine tq_iconst (v := 0) dX8_done_227 (by decide) ?_
        refine ts_c1_i dX8_done_228 rfl rfl rfl (Nat.le_of_ble_eq_true rfl) (wfm_truth (d := d) _) (fun p228 => ?_)
        exact tq_ireturn dX8_done_231 rfl rfl
      · refine tq_iconst (v := 1) dX8_done_223 (by decide) ?_
        refine tq_goto dX8_done_224 rfl ?_
        refine ts_c1_i dX8_done_228 rfl rfl rfl (Nat.le_of_ble_eq_true rfl) (wfm_truth (d := d) _) (fun p228 => ?_)
        exact tq_ireturn dX8_done_231 rfl rfl
  refine tq_case (fun c56 => ?_) (fun c56 => ?_)
  · rw [c56]
    refine tq_tsw (t := 215) dX8_done_1 (off := 214) (by decide) (by decide) ?_
    refine tq_iload_n dX8_done_215 rfl ?_
    refine tq_if_ne dX8_done_216 rfl ?_ ?_
    · refine tq_iconst (v := 1) dX8_done_223 (by decide) ?_
      refine tq_goto dX8_done_224 rfl ?_
      refine ts_c1_i dX8_done_228 rfl rfl rfl (Nat.le_of_ble_eq_true rfl) (wfm_truth (d := d) _) (fun p228 => ?_)
      exact tq_ireturn dX8_done_231 rfl rfl
    · refine tq_iload_n dX8_done_219 rfl ?_
      refine tq_if_eq dX8_done_220 rfl ?_ ?_
      · refine tq_iconst (v := 0) dX8_done_227 (by decide) ?_
        refine ts_c1_i dX8_done_228 rfl rfl rfl (Nat.le_of_ble_eq_true rfl) (wfm_truth (d := d) _) (fun p228 => ?_)
        exact tq_ireturn dX8_done_231 rfl rfl
      · refine tq_iconst (v := 1) dX8_done_223 (by decide) ?_
        refine tq_goto dX8_done_224 rfl ?_
        refine ts_c1_i dX8_done_228 rfl rfl rfl (Nat.le_of_ble_eq_true rfl) (wfm_truth (d := d) _) (fun p228 => ?_)
        exact tq_ireturn dX8_done_231 rfl rfl
  refine tq_case (fun c57 => ?_) (fun c57 => ?_)
  · rw [c57]
    refine tq_tsw (t := 215) dX8_done_1 (off := 214) (by decide) (by decide) ?_
    refine tq_iload_n dX8_done_215 rfl ?_
    refine tq_if_ne dX8_done_216 rfl ?_ ?_
    · refine tq_iconst (v := 1) dX8_done_223 (by decide) ?_
      refine tq_goto dX8_done_224 rfl ?_
      refine ts_c1_i dX8_done_228 rfl rfl rfl (Nat.le_of_ble_eq_true rfl) (wfm_truth (d := d) _) (fun p228 => ?_)
      exact tq_ireturn dX8_done_231 rfl rfl
    · refine tq_iload_n dX8_done_219 rfl ?_
      refine tq_if_eq dX8_done_220 rfl ?_ ?_
      · refine tq_iconst (v := 0) dX8_done_227 (by decide) ?_
        refine ts_c1_i dX8_done_228 rfl rfl rfl (Nat.le_of_ble_eq_true rfl) (wfm_truth (d := d) _) (fun p228 => ?_)
        exact tq_ireturn dX8_done_231 rfl rfl
      · refine tq_iconst (v := 1) dX8_done_223 (by decide) ?_
        refine tq_goto dX8_done_224 rfl ?_
        refine ts_c1_i dX8_done_228 rfl rfl rfl (Nat.le_of_ble_eq_true rfl) (wfm_truth (d := d) _) (fun p228 => ?_)
        exact tq_ireturn dX8_done_231 rfl rfl
  refine tq_case (fun c58 => ?_) (fun c58 => ?_)
  · rw [c58]
    refine tq_tsw (t := 215) dX8_done_1 (off := 214) (by decide) (by decide) ?_
    refine tq_iload_n dX8_done_215 rfl ?_
    refine tq_if_ne dX8_done_216 rfl ?_ ?_
    · refine tq_iconst (v := 1) dX8_done_223 (by decide) ?_
      refine tq_goto dX8_done_224 rfl ?_
      refine ts_c1_i dX8_done_228 rfl rfl rfl (Nat.le_of_ble_eq_true rfl) (wfm_truth (d := d) _) (fun p228 => ?_)
      exact tq_ireturn dX8_done_231 rfl rfl
    · refine tq_iload_n dX8_done_219 rfl ?_
      refine tq_if_eq dX8_done_220 rfl ?_ ?_
      · refine tq_iconst (v := 0) dX8_done_227 (by decide) ?_
        refine ts_c1_i dX8_done_228 rfl rfl rfl (Nat.le_of_ble_eq_true rfl) (wfm_truth (d := d) _) (fun p228 => ?_)
        exact tq_ireturn dX8_done_231 rfl rfl
      · refine tq_iconst (v := 1) dX8_done_223 (by decide) ?_
        refine tq_goto dX8_done_224 rfl ?_
        refine ts_c1_i dX8_done_228 rfl rfl rfl (Nat.le_of_ble_eq_true rfl) (wfm_truth (d := d) _) (fun p228 => ?_)
        exact tq_ireturn dX8_done_231 rfl rfl
  refine tq_case (fun c59 => ?_) (fun c59 => ?_)
  · rw [c59]
    refine tq_tsw (t := 215) dX8_done_1 (off := 214) (by decide) (by decide) ?_
    refine tq_iload_n dX8_done_215 rfl ?_
    refine tq_if_ne dX8_done_216 rfl ?_ ?_
    · refine tq_iconst (v := 1) dX8_done_223 (by decide) ?_
      refine tq_goto dX8_done_224 rfl ?_
      refine ts_c1_i dX8_done_228 rfl rfl rfl (Nat.le_of_ble_eq_true rfl) (wfm_truth (d := d) _) (fun p228 => ?_)
      exact tq_ireturn dX8_done_231 rfl rfl
    · refine tq_iload_n dX8_done_219 rfl ?_
      refine tq_if_eq dX8_done_220 rfl ?_ ?_
      · refine tq_iconst (v := 0) dX8_done_227 (by decide) ?_
        refine ts_c1_i dX8_done_228 rfl rfl rfl (Nat.le_of_ble_eq_true rfl) (wfm_truth (d := d) _) (fun p228 => ?_)
        exact tq_ireturn dX8_done_231 rfl rfl
      · refine tq_iconst (v := 1) dX8_done_223 (by decide) ?_
        refine tq_goto dX8_done_224 rfl ?_
        refine ts_c1_i dX8_done_228 rfl rfl rfl (Nat.le_of_ble_eq_true rfl) (wfm_truth (d := d) _) (fun p228 => ?_)
        exact tq_ireturn dX8_done_231 rfl rfl
  refine tq_case (fun c60 => ?_) (fun c60 => ?_)
  · rw [c60]
    refine tq_tsw (t := 156) dX8_done_1 (off := 155) (by decide) (by decide) ?_
    refine tq_iload_n dX8_done_156 rfl ?_
    refine tq_iload_n dX8_done_157 rfl ?_
    refine tq_icmp_ge dX8_done_158 rfl ?_ ?_
    · refine tq_iconst (v := 0) dX8_done_165 (by decide) ?_
      refine ts_c1_i dX8_done_166 rfl rfl rfl (Nat.le_of_ble_eq_true rfl) (wfm_truth (d := d) _) (fun p166 => ?_)
      exact tq_ireturn dX8_done_169 rfl rfl
    · refine tq_iconst (v := 1) dX8_done_161 (by decide) ?_
      refine tq_goto dX8_done_162 rfl ?_
      refine ts_c1_i dX8_done_166 rfl rfl rfl (Nat.le_of_ble_eq_true rfl) (wfm_truth (d := d) _) (fun p166 => ?_)
      exact tq_ireturn dX8_done_169 rfl rfl
  refine tq_case (fun c61 => ?_) (fun c61 => ?_)
  · rw [c61]
    refine tq_tsw (t := 184) dX8_done_1 (off := 183) (by decide) (by decide) ?_
    refine tq_iload_n dX8_done_184 rfl ?_
    refine tq_iload_n dX8_done_185 rfl ?_
    refine tq_icmp_ne dX8_done_186 rfl ?_ ?_
    · refine tq_iconst (v := 0) dX8_done_193 (by decide) ?_
      refine ts_c1_i dX8_done_194 rfl rfl rfl (Nat.le_of_ble_eq_true rfl) (wfm_truth (d := d) _) (fun p194 => ?_)
      exact tq_ireturn dX8_done_197 rfl rfl
    · refine tq_iconst (v := 1) dX8_done_189 (by decide) ?_
      refine tq_goto dX8_done_190 rfl ?_
      refine ts_c1_i dX8_done_194 rfl rfl rfl (Nat.le_of_ble_eq_true rfl) (wfm_truth (d := d) _) (fun p194 => ?_)
      exact tq_ireturn dX8_done_197 rfl rfl
  refine tq_case (fun c62 => ?_) (fun c62 => ?_)
  · rw [c62]
    refine tq_tsw (t := 170) dX8_done_1 (off := 169) (by decide) (by decide) ?_
    refine tq_iload_n dX8_done_170 rfl ?_
    refine tq_iload_n dX8_done_171 rfl ?_
    refine tq_icmp_le dX8_done_172 rfl ?_ ?_
    · refine tq_iconst (v := 0) dX8_done_179 (by decide) ?_
      refine ts_c1_i dX8_done_180 rfl rfl rfl (Nat.le_of_ble_eq_true rfl) (wfm_truth (d := d) _) (fun p180 => ?_)
      exact tq_ireturn dX8_done_183 rfl rfl
    · refine tq_iconst (v := 1) dX8_done_175 (by decide) ?_
      refine tq_goto dX8_done_176 rfl ?_
      refine ts_c1_i dX8_done_180 rfl rfl rfl (Nat.le_of_ble_eq_true rfl) (wfm_truth (d := d) _) (fun p180 => ?_)
      exact tq_ireturn dX8_done_183 rfl rfl
  refine tq_tsw (t := 215) dX8_done_1 (tsw_d (ks := [37, 38, 39, 40, 41, 42, 43, 44, 45, 46, 47, 48, 49, 50, 51, 52, 53, 54, 55, 56, 57, 58, 59, 60, 61, 62]) (by decide) (by simp only [List.mem_cons, List.not_mem_nil, or_false]; rintro k (rfl | rfl | rfl | rfl | rfl | rfl | rfl | rfl | rfl | rfl | rfl | rfl | rfl | rfl | rfl | rfl | rfl | rfl | rfl | rfl | rfl | rfl | rfl | rfl | rfl | rfl) <;> assumption)) (by decide) ?_
  refine tq_iload_n dX8_done_215 rfl ?_
  refine tq_if_ne dX8_done_216 rfl ?_ ?_
  · refine tq_iconst (v := 1) dX8_done_223 (by decide) ?_
    refine tq_goto dX8_done_224 rfl ?_
    refine ts_c1_i dX8_done_228 rfl rfl rfl (Nat.le_of_ble_eq_true rfl) (wfm_truth (d := d) _) (fun p228 => ?_)
    exact tq_ireturn dX8_done_231 rfl rfl
  · refine tq_iload_n dX8_done_219 rfl ?_
    refine tq_if_eq dX8_done_220 rfl ?_ ?_
    · refine tq_iconst (v := 0) dX8_done_227 (by decide) ?_
      refine ts_c1_i dX8_done_228 rfl rfl rfl (Nat.le_of_ble_eq_true rfl) (wfm_truth (d := d) _) (fun p228 => ?_)
      exact tq_ireturn dX8_done_231 rfl rfl
    · refine tq_iconst (v := 1) dX8_done_223 (by decide) ?_
      refine tq_goto dX8_done_224 rfl ?_
      refine ts_c1_i dX8_done_228 rfl rfl rfl (Nat.le_of_ble_eq_true rfl) (wfm_truth (d := d) _) (fun p228 => ?_)
      exact tq_ireturn dX8_done_231 rfl rfl
theorem wfm_within {G : ai_G} {d : Nat} {h : ai_H} (v0 : Int32) (v1 : Int32) : ∀ r, fm_within v0 v1 = some r → (Pi h) r (ai_call G (d + 1) 159 [.int v0, .int v1] h) := by
  refine tq_meth (P := (Pi h)) (d := d) (Nat.le_of_ble_eq_true rfl) ?_
  show Tj G d 159 (Pi h) (fm_within v0 v1) 0 [some (.int v0), some (.int v1)] [] h
  unfold fm_within
  refine tq_iload_n dX8_within_0 rfl ?_
  refine tq_if_ge dX8_within_1 rfl ?_ ?_
  · refine tq_iload_n dX8_within_8 rfl ?_
    refine tq_iload_n dX8_within_9 rfl ?_
    refine tq_icmp_le dX8_within_10 rfl ?_ ?_
    · refine tq_iload_n dX8_within_17 rfl ?_
      exact tq_ireturn dX8_within_18 rfl rfl
    · refine tq_iload_n dX8_within_13 rfl ?_
      refine tq_goto dX8_within_14 rfl ?_
      exact tq_ireturn dX8_within_18 rfl rfl
  · refine tq_iconst (v := 0) dX8_within_4 (by decide) ?_
    refine tq_goto dX8_within_5 rfl ?_
    exact tq_ireturn dX8_within_18 rfl rfl
abbrev Pfm_hotterOf_b90 (G : ai_G) (d M : Nat) (h0 : ai_H)  : (Int32 × Int32 × mS) ⊕ mS → Option ai_R → Prop := Sum.elim (fun (q : Int32 × Int32 × mS) run => ∃ J : JV, run = ai_run G (d + 2) 160 90 [some (.ref M), J.1, some (.int q.1), some (.int q.2.1)] [] (mH M q.2.2 h0)) (fun (q : mS) run => ∃ J : JV × JV × JV, run = ai_run G (d + 2) 160 238 [some (.ref M), J.1.1, J.2.1.1, J.2.2.1] [] (mH M q h0))
theorem Bfm_hotterOf_b90 {G : ai_G} {d M : Nat} {h0 : ai_H}  (b0 : Int32) (b1 : Int32) (b2 : mS) (J : JV) : Tj G (d + 2) 160 (Pfm_hotterOf_b90 G d M h0) (some (.inl (b0, b1, b2))) 90 [some (.ref M), J.1, some (.int b0), some (.int b1)] [] (mH M b2 h0) := tq_back J rfl rfl
theorem Efm_hotterOf_b90 {G : ai_G} {d M : Nat} {h0 : ai_H}  (b0 : mS) (J : JV × JV × JV) : Tj G (d + 2) 160 (Pfm_hotterOf_b90 G d M h0) (some (.inr b0)) 238 [some (.ref M), J.1.1, J.2.1.1, J.2.2.1] [] (mH M b0 h0) := tq_exit J rfl rfl
theorem wfm_hotterOf_j117 {G : ai_G} {d M : Nat} {h0 : ai_H} (j1 : JV)   (s : mS) (v2 : Int32) (v3 : Int32): Tj G (d + 2) 160 (Pfm_hotterOf_b90 G d M h0) (fm_hotterOf_j117 s v2 v3) 117 [some (.ref M), j1.1, some (.int v2), some (.int v3)] [] (mH M s h0) := by
  unfold fm_hotterOf_j117
  refine tq_aload_n dX8_hotterOf_117 rfl ?_
  refine tm_ga (j := 8) dX8_hotterOf_118 rfl rfl ?_
  refine tq_iload_n dX8_hotterOf_121 rfl ?_
  refine tq_aload_n dX8_hotterOf_122 rfl ?_
  refine tm_ga (j := 5) dX8_hotterOf_123 rfl rfl ?_
  refine tq_iload_n dX8_hotterOf_126 rfl ?_
  refine tm_ild dX8_hotterOf_127 rfl (fun x127 => ?_)
  refine tq_if_ne dX8_hotterOf_128 rfl ?_ ?_
  · refine tq_aload_n dX8_hotterOf_140 rfl ?_
    refine tm_ga (j := 9) dX8_hotterOf_141 rfl rfl ?_
    refine tq_aload_n dX8_hotterOf_144 rfl ?_
    refine tm_ga (j := 6) dX8_hotterOf_145 rfl rfl ?_
    refine tq_iload_n dX8_hotterOf_148 rfl ?_
    refine tm_ild dX8_hotterOf_149 rfl (fun x149 => ?_)
    refine tm_ild dX8_hotterOf_150 rfl (fun x150 => ?_)
    refine tm_ist dX8_hotterOf_151 rfl (fun s151 => ?_)
    refine tq_iinc (v := (v2 + 1)) (L' := [_, _, _, _]) dX8_hotterOf_152 rfl (Nat.le_of_ble_eq_true rfl) rfl (st1_jv (i := 1) (j := j1) rfl rfl) ?_
    refine tq_goto dX8_hotterOf_155 rfl ?_
    refine tq_iinc (v := (v3 + 1)) (L' := [_, _, _, _]) dX8_hotterOf_232 rfl (Nat.le_of_ble_eq_true rfl) rfl rfl ?_
    refine tq_goto dX8_hotterOf_235 rfl ?_
    exact Bfm_hotterOf_b90 _ _ _ j1
  · refine tq_aload_n dX8_hotterOf_131 rfl ?_
    refine tm_ga (j := 6) dX8_hotterOf_132 rfl rfl ?_
    refine tq_iload_n dX8_hotterOf_135 rfl ?_
    refine tm_ild dX8_hotterOf_136 rfl (fun x136 => ?_)
    refine tq_goto dX8_hotterOf_137 rfl ?_
    refine tm_ist dX8_hotterOf_151 rfl (fun s151 => ?_)
    refine tq_iinc (v := (v2 + 1)) (L' := [_, _, _, _]) dX8_hotterOf_152 rfl (Nat.le_of_ble_eq_true rfl) rfl (st1_jv (i := 1) (j := j1) rfl rfl) ?_
    refine tq_goto dX8_hotterOf_155 rfl ?_
    refine tq_iinc (v := (v3 + 1)) (L' := [_, _, _, _]) dX8_hotterOf_232 rfl (Nat.le_of_ble_eq_true rfl) rfl rfl ?_
    refine tq_goto dX8_hotterOf_235 rfl ?_
    exact Bfm_hotterOf_b90 _ _ _ j1
theorem wfm_hotterOf_b90 {G : ai_G} {d M : Nat} {h0 : ai_H}  (q : Int32 × Int32 × mS) (J : JV) : Tj G (d + 2) 160 (Pfm_hotterOf_b90 G d M h0) (fm_hotterOf_b90 q) 90 [some (.ref M), J.1, some (.int q.1), some (.int q.2.1)] [] (mH M q.2.2 h0) := by
  unfold fm_hotterOf_b90
  refine tq_iload_n dX8_hotterOf_90 rfl ?_
  refine tq_aload_n dX8_hotterOf_91 rfl ?_
  refine tm_gi (k9 := 18) dX8_hotterOf_92 rfl rfl ?_
  refine tq_icmp_ge dX8_hotterOf_95 rfl ?_ ?_
  · exact Efm_hotterOf_b90 _ (J, ⟨some (.int q.1), rfl⟩, ⟨some (.int q.2.1), rfl⟩)
  · refine tq_aload_n dX8_hotterOf_98 rfl ?_
    refine tm_ga (j := 5) dX8_hotterOf_99 rfl rfl ?_
    refine tq_iload_n dX8_hotterOf_102 rfl ?_
    refine tm_ild dX8_hotterOf_103 rfl (fun x103 => ?_)
    refine tq_if_eq dX8_hotterOf_104 rfl ?_ ?_
    · exact wfm_hotterOf_j117 J _ _ _
    · refine tq_aload_n dX8_hotterOf_107 rfl ?_
      refine tm_ga (j := 5) dX8_hotterOf_108 rfl rfl ?_
      refine tq_iload_n dX8_hotterOf_111 rfl ?_
      refine tm_ild dX8_hotterOf_112 rfl (fun x112 => ?_)
      refine tq_iconst (v := 1) dX8_hotterOf_113 (by decide) ?_
      refine tq_icmp_ne dX8_hotterOf_114 rfl ?_ ?_
      · refine tq_aload_n dX8_hotterOf_158 rfl ?_
        refine tm_ga (j := 5) dX8_hotterOf_159 rfl rfl ?_
        refine tq_iload_n dX8_hotterOf_162 rfl ?_
        refine tm_ild dX8_hotterOf_163 rfl (fun x163 => ?_)
        refine tq_iconst (v := 2) dX8_hotterOf_164 (by decide) ?_
        refine tq_icmp_ne dX8_hotterOf_165 rfl ?_ ?_
        · refine tq_iinc (v := (q.1 + (-1))) (L' := [_, _, _, _]) dX8_hotterOf_198 rfl (Nat.le_of_ble_eq_true rfl) rfl (st1_jv (i := 1) (j := J) rfl rfl) ?_
          refine tq_aload_n dX8_hotterOf_201 rfl ?_
          refine tm_ga (j := 8) dX8_hotterOf_202 rfl rfl ?_
          refine tq_iload_n dX8_hotterOf_205 rfl ?_
          refine tq_iconst (v := 1) dX8_hotterOf_206 (by decide) ?_
          refine tq_isub dX8_hotterOf_207 ?_
          refine tq_aload_n dX8_hotterOf_208 rfl ?_
          refine tm_ga (j := 6) dX8_hotterOf_209 rfl rfl ?_
          refine tq_iload_n dX8_hotterOf_212 rfl ?_
          refine tm_ild dX8_hotterOf_213 rfl (fun x213 => ?_)
          refine tq_aload_n dX8_hotterOf_214 rfl ?_
          refine tm_ga (j := 8) dX8_hotterOf_215 rfl rfl ?_
          refine tq_iload_n dX8_hotterOf_218 rfl ?_
          refine tq_iconst (v := 1) dX8_hotterOf_219 (by decide) ?_
          refine tq_isub dX8_hotterOf_220 ?_
          refine tm_ild dX8_hotterOf_221 rfl (fun x221 => ?_)
          refine tq_aload_n dX8_hotterOf_222 rfl ?_
          refine tm_ga (j := 8) dX8_hotterOf_223 rfl rfl ?_
          refine tq_iload_n dX8_hotterOf_226 rfl ?_
          refine tm_ild dX8_hotterOf_227 rfl (fun x227 => ?_)
          refine ts_c3_i dX8_hotterOf_228 rfl rfl rfl (Nat.le_of_ble_eq_true rfl) (wfm_done (d := d) _ _ _) (fun p228 => ?_)
          refine tm_ist dX8_hotterOf_231 rfl (fun s231 => ?_)
          refine tq_iinc (v := (q.2.1 + 1)) (L' := [_, _, _, _]) dX8_hotterOf_232 rfl (Nat.le_of_ble_eq_true rfl) rfl rfl ?_
          refine tq_goto dX8_hotterOf_235 rfl ?_
          exact Bfm_hotterOf_b90 _ _ _ J
        · refine tq_aload_n dX8_hotterOf_168 rfl ?_
          refine tm_ga (j := 8) dX8_hotterOf_169 rfl rfl ?_
          refine tq_iload_n dX8_hotterOf_172 rfl ?_
          refine tq_iconst (v := 1) dX8_hotterOf_173 (by decide) ?_
          refine tq_isub dX8_hotterOf_174 ?_
          refine tq_aload_n dX8_hotterOf_175 rfl ?_
          refine tm_ga (j := 8) dX8_hotterOf_176 rfl rfl ?_
          refine tq_iload_n dX8_hotterOf_179 rfl ?_
          refine tq_iconst (v := 1) dX8_hotterOf_180 (by decide) ?_
          refine tq_isub dX8_hotterOf_181 ?_
          refine tm_ild dX8_hotterOf_182 rfl (fun x182 => ?_)
          refine tq_if_ne dX8_hotterOf_183 rfl ?_ ?_
          · refine tq_iconst (v := 0) dX8_hotterOf_190 (by decide) ?_
            refine ts_c1_i dX8_hotterOf_191 rfl rfl rfl (Nat.le_of_ble_eq_true rfl) (wfm_truth (d := d + 1) _) (fun p191 => ?_)
            refine tm_ist dX8_hotterOf_194 rfl (fun s194 => ?_)
            refine tq_goto dX8_hotterOf_195 rfl ?_
            refine tq_iinc (v := (q.2.1 + 1)) (L' := [_, _, _, _]) dX8_hotterOf_232 rfl (Nat.le_of_ble_eq_true rfl) rfl rfl ?_
            refine tq_goto dX8_hotterOf_235 rfl ?_
            exact Bfm_hotterOf_b90 _ _ _ J
          · refine tq_iconst (v := 1) dX8_hotterOf_186 (by decide) ?_
            refine tq_goto dX8_hotterOf_187 rfl ?_
            refine ts_c1_i dX8_hotterOf_191 rfl rfl rfl (Nat.le_of_ble_eq_true rfl) (wfm_truth (d := d + 1) _) (fun p191 => ?_)
            refine tm_ist dX8_hotterOf_194 rfl (fun s194 => ?_)
            refine tq_goto dX8_hotterOf_195 rfl ?_
            refine tq_iinc (v := (q.2.1 + 1)) (L' := [_, _, _, _]) dX8_hotterOf_232 rfl (Nat.le_of_ble_eq_true rfl) rfl rfl ?_
            refine tq_goto dX8_hotterOf_235 rfl ?_
            exact Bfm_hotterOf_b90 _ _ _ J
      · exact wfm_hotterOf_j117 J _ _ _
theorem Sfm_hotterOf_b90 {G : ai_G} {d M : Nat} {h0 : ai_H} {α : Type} {P : α → Option ai_R → Prop}  (b0 : Int32) (b1 : Int32) (b2 : mS) (J : JV) {r : mS → Option α} (kk : ∀ (q : mS) (J : JV × JV × JV), Tj G (d + 2) 160 P (r q) 238 [some (.ref M), J.1.1, J.2.1.1, J.2.2.1] [] (mH M q h0)) : Tj G (d + 2) 160 P ((lp fm_hotterOf_b90 (b0, b1, b2)).bind r) 90 [some (.ref M), J.1, some (.int b0), some (.int b1)] [] (mH M b2 h0) := tq_lp1 (J := J) (fun q J => wfm_hotterOf_b90  q J) rfl rfl kk
theorem wfm_hotterOf {G : ai_G} {d M : Nat} {h0 : ai_H} (s : mS) (v1 : Int32) : ∀ r, fm_hotterOf s v1 = some r → (PmI M h0) r (ai_call G (d + 3) 160 [.ref M, .int v1] (mH M s h0)) := by
  refine tq_meth (P := (PmI M h0)) (d := (d + 2)) (Nat.le_of_ble_eq_true rfl) ?_
  show Tj G (d + 2) 160 (PmI M h0) (fm_hotterOf s v1) 0 [some (.ref M), some (.int v1), none, none] [] (mH M s h0)
  unfold fm_hotterOf
  refine tq_aload_n dX8_hotterOf_0 rfl ?_
  refine tm_ga (j := 9) dX8_hotterOf_1 rfl rfl ?_
  refine tq_iconst (v := 0) dX8_hotterOf_4 (by decide) ?_
  refine tq_aload_n dX8_hotterOf_5 rfl ?_
  refine tm_ga (j := 23) dX8_hotterOf_6 rfl rfl ?_
  refine tq_iconst (v := 4) dX8_hotterOf_9 (by decide) ?_
  refine tq_iload_n dX8_hotterOf_10 rfl ?_
  refine tq_iadd dX8_hotterOf_11 ?_
  refine tm_ild dX8_hotterOf_12 rfl (fun x12 => ?_)
  refine tm_ist dX8_hotterOf_13 rfl (fun s13 => ?_)
  refine tq_aload_n dX8_hotterOf_14 rfl ?_
  refine tm_ga (j := 9) dX8_hotterOf_15 rfl rfl ?_
  refine tq_iconst (v := 1) dX8_hotterOf_18 (by decide) ?_
  refine tq_aload_n dX8_hotterOf_19 rfl ?_
  refine tm_ga (j := 23) dX8_hotterOf_20 rfl rfl ?_
  refine tq_iload_n dX8_hotterOf_23 rfl ?_
  refine tm_ild dX8_hotterOf_24 rfl (fun x24 => ?_)
  refine tm_ist dX8_hotterOf_25 rfl (fun s25 => ?_)
  refine tq_aload_n dX8_hotterOf_26 rfl ?_
  refine tm_ga (j := 9) dX8_hotterOf_27 rfl rfl ?_
  refine tq_iconst (v := 2) dX8_hotterOf_30 (by decide) ?_
  refine tq_aload_n dX8_hotterOf_31 rfl ?_
  refine tq_iload_n dX8_hotterOf_32 rfl ?_
  refine tm_c1_i dX8_hotterOf_33 rfl rfl rfl (Nat.le_of_ble_eq_true rfl) (wfm_burdenOf (d := d + 1) _ _) (fun p33 => ?_)
  refine tm_ist dX8_hotterOf_36 rfl (fun s36 => ?_)
  refine tq_aload_n dX8_hotterOf_37 rfl ?_
  refine tm_ga (j := 9) dX8_hotterOf_38 rfl rfl ?_
  refine tq_iconst (v := 3) dX8_hotterOf_41 (by decide) ?_
  refine tq_aload_n dX8_hotterOf_42 rfl ?_
  refine tm_ga (j := 18) dX8_hotterOf_43 rfl rfl ?_
  refine tq_iload_n dX8_hotterOf_46 rfl ?_
  refine tm_ild dX8_hotterOf_47 rfl (fun x47 => ?_)
  refine tm_ist dX8_hotterOf_48 rfl (fun s48 => ?_)
  refine tq_aload_n dX8_hotterOf_49 rfl ?_
  refine tm_ga (j := 9) dX8_hotterOf_50 rfl rfl ?_
  refine tq_iconst (v := 4) dX8_hotterOf_53 (by decide) ?_
  refine tq_aload_n dX8_hotterOf_54 rfl ?_
  refine tm_ga (j := 23) dX8_hotterOf_55 rfl rfl ?_
  refine tq_bipush (v := 16) dX8_hotterOf_58 (by decide) ?_
  refine tq_iload_n dX8_hotterOf_60 rfl ?_
  refine tq_iadd dX8_hotterOf_61 ?_
  refine tm_ild dX8_hotterOf_62 rfl (fun x62 => ?_)
  refine tm_ist dX8_hotterOf_63 rfl (fun s63 => ?_)
  refine tq_aload_n dX8_hotterOf_64 rfl ?_
  refine tm_ga (j := 9) dX8_hotterOf_65 rfl rfl ?_
  refine tq_iconst (v := 5) dX8_hotterOf_68 (by decide) ?_
  refine tq_aload_n dX8_hotterOf_69 rfl ?_
  refine tm_ga (j := 23) dX8_hotterOf_70 rfl rfl ?_
  refine tq_bipush (v := 8) dX8_hotterOf_73 (by decide) ?_
  refine tq_iload_n dX8_hotterOf_75 rfl ?_
  refine tq_iadd dX8_hotterOf_76 ?_
  refine tm_ild dX8_hotterOf_77 rfl (fun x77 => ?_)
  refine tm_ist dX8_hotterOf_78 rfl (fun s78 => ?_)
  refine tq_iconst (v := 0) dX8_hotterOf_79 (by decide) ?_
  refine tq_istore_n (L' := [_, _, _, _]) dX8_hotterOf_80 (Nat.le_of_ble_eq_true rfl) rfl ?_
  refine tq_aload_n dX8_hotterOf_81 rfl ?_
  refine tm_ga (j := 8) dX8_hotterOf_82 rfl rfl ?_
  refine tq_iconst (v := 0) dX8_hotterOf_85 (by decide) ?_
  refine tq_iconst (v := 1) dX8_hotterOf_86 (by decide) ?_
  refine tm_ist dX8_hotterOf_87 rfl (fun s87 => ?_)
  refine tq_iconst (v := 0) dX8_hotterOf_88 (by decide) ?_
  refine tq_istore_n (L' := [_, _, _, _]) dX8_hotterOf_89 (Nat.le_of_ble_eq_true rfl) rfl ?_
  refine Sfm_hotterOf_b90 _ _ _ ⟨some (.int v1), rfl⟩ (fun q90 J90 => ?_)
  refine tq_aload_n dX8_hotterOf_238 rfl ?_
  refine tm_ga (j := 8) dX8_hotterOf_239 rfl rfl ?_
  refine tq_iconst (v := 0) dX8_hotterOf_242 (by decide) ?_
  refine tm_ild dX8_hotterOf_243 rfl (fun x243 => ?_)
  refine tq_bipush (v := 99) dX8_hotterOf_244 (by decide) ?_
  refine ts_c2_i dX8_hotterOf_246 rfl rfl rfl (Nat.le_of_ble_eq_true rfl) (wfm_within (d := d + 1) _ _) (fun p246 => ?_)
  exact tq_ireturn dX8_hotterOf_249 rfl rfl
theorem wfm_hotter {G : ai_G} {d M : Nat} {h0 : ai_H} (s : mS) (v1 : Int32) : ∀ r, fm_hotter s v1 = some r → (PmI M h0) r (ai_call G (d + 4) 161 [.ref M, .int v1] (mH M s h0)) := by
  refine tq_meth (P := (PmI M h0)) (d := (d + 3)) (Nat.le_of_ble_eq_true rfl) ?_
  show Tj G (d + 3) 161 (PmI M h0) (fm_hotter s v1) 0 [some (.ref M), some (.int v1)] [] (mH M s h0)
  unfold fm_hotter
  refine tq_aload_n dX8_hotter_0 rfl ?_
  refine tm_c0_V dX8_hotter_1 rfl rfl rfl (Nat.le_of_ble_eq_true rfl) (wfm_fill (d := d + 2) _) (fun p1 => ?_)
  refine tq_aload_n dX8_hotter_4 rfl ?_
  refine tq_iload_n dX8_hotter_5 rfl ?_
  refine tm_c1_i dX8_hotter_6 rfl rfl rfl (Nat.le_of_ble_eq_true rfl) (wfm_isBoard (d := d + 1) _ _) (fun p6 => ?_)
  refine tq_if_eq dX8_hotter_9 rfl ?_ ?_
  · refine tq_iconst (v := (-1)) dX8_hotter_20 (by decide) ?_
    exact tq_ireturn dX8_hotter_21 rfl rfl
  · refine tq_aload_n dX8_hotter_12 rfl ?_
    refine tq_iload_n dX8_hotter_13 rfl ?_
    refine tm_c1_I dX8_hotter_14 rfl rfl rfl (Nat.le_of_ble_eq_true rfl) (wfm_hotterOf (d := d) _ _) (fun p14 => ?_)
    refine tq_goto dX8_hotter_17 rfl ?_
    exact tq_ireturn dX8_hotter_21 rfl rfl
abbrev Pfm_act_b51 (G : ai_G) (d M : Nat) (h0 : ai_H)  : (Int32 × mS) ⊕ mS → Option ai_R → Prop := Sum.elim (fun (q : Int32 × mS) run => ∃ J : Unit, run = ai_run G (d + 1) 169 51 [some (.ref M), some (.int q.1)] [] (mH M q.2 h0)) (fun (q : mS) run => ∃ J : JV, run = ai_run G (d + 1) 169 83 [some (.ref M), J.1] [] (mH M q h0))
theorem Bfm_act_b51 {G : ai_G} {d M : Nat} {h0 : ai_H}  (b0 : Int32) (b1 : mS) (J : Unit) : Tj G (d + 1) 169 (Pfm_act_b51 G d M h0) (some (.inl (b0, b1))) 51 [some (.ref M), some (.int b0)] [] (mH M b1 h0) := tq_back J rfl rfl
theorem Efm_act_b51 {G : ai_G} {d M : Nat} {h0 : ai_H}  (b0 : mS) (J : JV) : Tj G (d + 1) 169 (Pfm_act_b51 G d M h0) (some (.inr b0)) 83 [some (.ref M), J.1] [] (mH M b0 h0) := tq_exit J rfl rfl
theorem wfm_act_b51 {G : ai_G} {d M : Nat} {h0 : ai_H}  (q : Int32 × mS) (J : Unit) : Tj G (d + 1) 169 (Pfm_act_b51 G d M h0) (fm_act_b51 q) 51 [some (.ref M), some (.int q.1)] [] (mH M q.2 h0) := by
  unfold fm_act_b51
  refine tq_iload_n dX8_act_51 rfl ?_
  refine tq_bipush (v := 28) dX8_act_52 (by decide) ?_
  refine tq_icmp_ge dX8_act_54 rfl ?_ ?_
  · exact Efm_act_b51 _ ⟨some (.int q.1), rfl⟩
  · refine tq_aload_n dX8_act_57 rfl ?_
    refine tm_ga (j := 24) dX8_act_58 rfl rfl ?_
    refine tq_bipush (v := 28) dX8_act_61 (by decide) ?_
    refine tq_aload_n dX8_act_63 rfl ?_
    refine tm_gi (k9 := 57) dX8_act_64 rfl rfl ?_
    refine tq_imul dX8_act_67 ?_
    refine tq_iload_n dX8_act_68 rfl ?_
    refine tq_iadd dX8_act_69 ?_
    refine tq_aload_n dX8_act_70 rfl ?_
    refine tm_ga (j := 22) dX8_act_71 rfl rfl ?_
    refine tq_iload_n dX8_act_74 rfl ?_
    refine tm_ild dX8_act_75 rfl (fun x75 => ?_)
    refine tm_ist dX8_act_76 rfl (fun s76 => ?_)
    refine tq_iinc (v := (q.1 + 1)) (L' := [_, _]) dX8_act_77 rfl (Nat.le_of_ble_eq_true rfl) rfl rfl ?_
    refine tq_goto dX8_act_80 rfl ?_
    exact Bfm_act_b51 _ _ ()
theorem Sfm_act_b51 {G : ai_G} {d M : Nat} {h0 : ai_H} {α : Type} {P : α → Option ai_R → Prop}  (b0 : Int32) (b1 : mS) (J : Unit) {r : mS → Option α} (kk : ∀ (q : mS) (J : JV), Tj G (d + 1) 169 P (r q) 83 [some (.ref M), J.1] [] (mH M q h0)) : Tj G (d + 1) 169 P ((lp fm_act_b51 (b0, b1)).bind r) 51 [some (.ref M), some (.int b0)] [] (mH M b1 h0) := tq_lp1 (J := J) (fun q J => wfm_act_b51  q J) rfl rfl kk
abbrev Pfm_act_b11 (G : ai_G) (d M : Nat) (h0 : ai_H)  : (Int32 × mS) ⊕ mS → Option ai_R → Prop := Sum.elim (fun (q : Int32 × mS) run => ∃ J : Unit, run = ai_run G (d + 1) 169 11 [some (.ref M), some (.int q.1)] [] (mH M q.2 h0)) (fun (q : mS) run => ∃ J : JV, run = ai_run G (d + 1) 169 39 [some (.ref M), J.1] [] (mH M q h0))
theorem Bfm_act_b11 {G : ai_G} {d M : Nat} {h0 : ai_H}  (b0 : Int32) (b1 : mS) (J : Unit) : Tj G (d + 1) 169 (Pfm_act_b11 G d M h0) (some (.inl (b0, b1))) 11 [some (.ref M), some (.int b0)] [] (mH M b1 h0) := tq_back J rfl rfl
theorem Efm_act_b11 {G : ai_G} {d M : Nat} {h0 : ai_H}  (b0 : mS) (J : JV) : Tj G (d + 1) 169 (Pfm_act_b11 G d M h0) (some (.inr b0)) 39 [some (.ref M), J.1] [] (mH M b0 h0) := tq_exit J rfl rfl
theorem wfm_act_b11 {G : ai_G} {d M : Nat} {h0 : ai_H}  (q : Int32 × mS) (J : Unit) : Tj G (d + 1) 169 (Pfm_act_b11 G d M h0) (fm_act_b11 q) 11 [some (.ref M), some (.int q.1)] [] (mH M q.2 h0) := by
  unfold fm_act_b11
  refine tq_iload_n dX8_act_11 rfl ?_
  refine tq_sipush (v := 1092) dX8_act_12 (by decide) ?_
  refine tq_icmp_ge dX8_act_15 rfl ?_ ?_
  · exact Efm_act_b11 _ ⟨some (.int q.1), rfl⟩
  · refine tq_aload_n dX8_act_18 rfl ?_
    refine tm_ga (j := 24) dX8_act_19 rfl rfl ?_
    refine tq_iload_n dX8_act_22 rfl ?_
    refine tq_aload_n dX8_act_23 rfl ?_
    refine tm_ga (j := 24) dX8_act_24 rfl rfl ?_
    refine tq_bipush (v := 28) dX8_act_27 (by decide) ?_
    refine tq_iload_n dX8_act_29 rfl ?_
    refine tq_iadd dX8_act_30 ?_
    refine tm_ild dX8_act_31 rfl (fun x31 => ?_)
    refine tm_ist dX8_act_32 rfl (fun s32 => ?_)
    refine tq_iinc (v := (q.1 + 1)) (L' := [_, _]) dX8_act_33 rfl (Nat.le_of_ble_eq_true rfl) rfl rfl ?_
    refine tq_goto dX8_act_36 rfl ?_
    exact Bfm_act_b11 _ _ ()
theorem Sfm_act_b11 {G : ai_G} {d M : Nat} {h0 : ai_H} {α : Type} {P : α → Option ai_R → Prop}  (b0 : Int32) (b1 : mS) (J : Unit) {r : mS → Option α} (kk : ∀ (q : mS) (J : JV), Tj G (d + 1) 169 P (r q) 39 [some (.ref M), J.1] [] (mH M q h0)) : Tj G (d + 1) 169 P ((lp fm_act_b11 (b0, b1)).bind r) 11 [some (.ref M), some (.int b0)] [] (mH M b1 h0) := tq_lp1 (J := J) (fun q J => wfm_act_b11  q J) rfl rfl kk
theorem wfm_act {G : ai_G} {d M : Nat} {h0 : ai_H} (s : mS) : ∀ r, fm_act s = some r → (PmV M h0) r (ai_call G (d + 2) 169 [.ref M] (mH M s h0)) := by
  refine tq_meth (P := (PmV M h0)) (d := (d + 1)) (Nat.le_of_ble_eq_true rfl) ?_
  show Tj G (d + 1) 169 (PmV M h0) (fm_act s) 0 [some (.ref M), none] [] (mH M s h0)
  unfold fm_act
  refine tq_aload_n dX8_act_0 rfl ?_
  refine tm_gi (k9 := 57) dX8_act_1 rfl rfl ?_
  refine tq_bipush (v := 40) dX8_act_4 (by decide) ?_
  refine tq_icmp_ne dX8_act_6 rfl ?_ ?_
  · refine tq_iconst (v := 0) dX8_act_49 (by decide) ?_
    refine tq_istore_n (L' := [_, _]) dX8_act_50 (Nat.le_of_ble_eq_true rfl) rfl ?_
    refine Sfm_act_b51 _ _ () (fun q51 J51 => ?_)
    refine tq_aload_n dX8_act_83 rfl ?_
    refine tq_dup dX8_act_84 rfl ?_
    refine tm_gi (k9 := 57) dX8_act_85 rfl rfl ?_
    refine tq_iconst (v := 1) dX8_act_88 (by decide) ?_
    refine tq_iadd dX8_act_89 ?_
    refine tm_pi dX8_act_90 rfl rfl (fun s90 => ?_)
    refine tq_aload_n dX8_act_93 rfl ?_
    refine tq_iconst (v := 0) dX8_act_94 (by decide) ?_
    refine tm_pi dX8_act_95 rfl rfl (fun s95 => ?_)
    refine tq_aload_n dX8_act_98 rfl ?_
    refine tm_c0_V dX8_act_99 rfl rfl rfl (Nat.le_of_ble_eq_true rfl) (wfm_fill (d := d) _) (fun p99 => ?_)
    exact tq_return dX8_act_102 rfl rfl
  · refine tq_iconst (v := 0) dX8_act_9 (by decide) ?_
    refine tq_istore_n (L' := [_, _]) dX8_act_10 (Nat.le_of_ble_eq_true rfl) rfl ?_
    refine Sfm_act_b11 _ _ () (fun q11 J11 => ?_)
    refine tq_aload_n dX8_act_39 rfl ?_
    refine tq_dup dX8_act_40 rfl ?_
    refine tm_gi (k9 := 57) dX8_act_41 rfl rfl ?_
    refine tq_iconst (v := 1) dX8_act_44 (by decide) ?_
    refine tq_isub dX8_act_45 ?_
    refine tm_pi dX8_act_46 rfl rfl (fun s46 => ?_)
    refine tq_iconst (v := 0) dX8_act_49 (by decide) ?_
    refine tq_istore_n (L' := [_, _]) dX8_act_50 (Nat.le_of_ble_eq_true rfl) rfl ?_
    refine Sfm_act_b51 _ _ () (fun q51 J51 => ?_)
    refine tq_aload_n dX8_act_83 rfl ?_
    refine tq_dup dX8_act_84 rfl ?_
    refine tm_gi (k9 := 57) dX8_act_85 rfl rfl ?_
    refine tq_iconst (v := 1) dX8_act_88 (by decide) ?_
    refine tq_iadd dX8_act_89 ?_
    refine tm_pi dX8_act_90 rfl rfl (fun s90 => ?_)
    refine tq_aload_n dX8_act_93 rfl ?_
    refine tq_iconst (v := 0) dX8_act_94 (by decide) ?_
    refine tm_pi dX8_act_95 rfl rfl (fun s95 => ?_)
    refine tq_aload_n dX8_act_98 rfl ?_
    refine tm_c0_V dX8_act_99 rfl rfl rfl (Nat.le_of_ble_eq_true rfl) (wfm_fill (d := d) _) (fun p99 => ?_)
    exact tq_return dX8_act_102 rfl rfl
theorem wfm_columnBy {G : ai_G} {d M : Nat} {h0 : ai_H} (s : mS) (v1 : Int32) (v2 : Int32) (v3 : Int32) (v4 : Int32) : ∀ r, fm_columnBy s v1 v2 v3 v4 = some r → (Pi (mH M s h0)) r (ai_call G (d + 2) 170 [.ref M, .int v1, .int v2, .int v3, .int v4] (mH M s h0)) := by
  refine tq_meth (P := (Pi (mH M s h0))) (d := (d + 1)) (Nat.le_of_ble_eq_true rfl) ?_
  show Tj G (d + 1) 170 (Pi (mH M s h0)) (fm_columnBy s v1 v2 v3 v4) 0 [some (.ref M), some (.int v1), some (.int v2), some (.int v3), some (.int v4)] [] (mH M s h0)
  unfold fm_columnBy
  refine tq_iload_n dX8_columnBy_0 rfl ?_
  refine tq_iload_n dX8_columnBy_1 rfl ?_
  refine tq_iadd dX8_columnBy_2 ?_
  refine tq_iload dX8_columnBy_3 rfl ?_
  refine tq_aload_n dX8_columnBy_5 rfl ?_
  refine tq_iload_n dX8_columnBy_6 rfl ?_
  refine tq_iload_n dX8_columnBy_7 rfl ?_
  refine tm_c2_i dX8_columnBy_8 rfl rfl rfl (Nat.le_of_ble_eq_true rfl) (wfm_currentAt (d := d) _ _ _) (fun p8 => ?_)
  refine tq_imul dX8_columnBy_11 ?_
  refine tq_iadd dX8_columnBy_12 ?_
  refine tq_aload_n dX8_columnBy_13 rfl ?_
  refine tm_gi (k9 := 46) dX8_columnBy_14 rfl rfl ?_
  refine tq_iconst (v := 1) dX8_columnBy_17 (by decide) ?_
  refine tq_isub dX8_columnBy_18 ?_
  refine ts_c2_i dX8_columnBy_19 rfl rfl rfl (Nat.le_of_ble_eq_true rfl) (wfm_within (d := d) _ _) (fun p19 => ?_)
  exact tq_ireturn dX8_columnBy_22 rfl rfl
theorem wfm_goStroke_j185 {G : ai_G} {d M : Nat} {h0 : ai_H} (j0 : JV) (j1 : JV) (j2 : JV) (j3 : JV) (j4 : JV) (j5 : JV) (j6 : JV) (j7 : JV)   (s : mS) (v8 : Int32) (v9 : Int32): Tj G (d + 3) 171 (PmI M h0) (fm_goStroke_j185 s v8 v9) 185 [j0.1, j1.1, j2.1, j3.1, j4.1, j5.1, j6.1, j7.1, some (.int v8), some (.int v9)] [] (mH M s h0) := by
  unfold fm_goStroke_j185
  refine tq_iload dX8_goStroke_185 rfl ?_
  refine ts_c1_i dX8_goStroke_187 rfl rfl rfl (Nat.le_of_ble_eq_true rfl) (wfm_truth (d := d + 2) _) (fun p187 => ?_)
  refine tq_iconst (v := 2) dX8_goStroke_190 (by decide) ?_
  refine tq_iload dX8_goStroke_191 rfl ?_
  refine ts_c1_i dX8_goStroke_193 rfl rfl rfl (Nat.le_of_ble_eq_true rfl) (wfm_truth (d := d + 2) _) (fun p193 => ?_)
  refine tq_imul dX8_goStroke_196 ?_
  refine tq_iadd dX8_goStroke_197 ?_
  exact tq_ireturn dX8_goStroke_198 rfl rfl
theorem wfm_goStroke_j151 {G : ai_G} {d M : Nat} {h0 : ai_H} (j2 : JV) (j3 : JV) (j4 : JV) (j5 : JV) (j6 : JV) (j7 : JV)   (s : mS) (v1 : Int32) (v8 : Int32) (v9 : Int32) (t1 : Int32) (t2 : Int32): Tj G (d + 3) 171 (PmI M h0) (fm_goStroke_j151 s v1 v8 v9 t1 t2) 151 [some (.ref M), some (.int v1), j2.1, j3.1, j4.1, j5.1, j6.1, j7.1, some (.int v8), some (.int v9)] [.int t2, .int t1, .ref (M + 23)] (mH M s h0) := by
  unfold fm_goStroke_j151
  refine tm_ist dX8_goStroke_151 rfl (fun s151 => ?_)
  refine tq_iload dX8_goStroke_152 rfl ?_
  refine tq_if_eq dX8_goStroke_154 rfl ?_ ?_
  · exact wfm_goStroke_j185 ⟨some (.ref M), rfl⟩ ⟨some (.int v1), rfl⟩ j2 j3 j4 j5 j6 j7 _ _ _
  · refine tq_aload_n dX8_goStroke_157 rfl ?_
    refine tm_ga (j := 23) dX8_goStroke_158 rfl rfl ?_
    refine tq_bipush (v := 12) dX8_goStroke_161 (by decide) ?_
    refine tq_iload_n dX8_goStroke_163 rfl ?_
    refine tq_iadd dX8_goStroke_164 ?_
    refine tm_ild dX8_goStroke_165 rfl (fun x165 => ?_)
    refine tq_sipush (v := 999) dX8_goStroke_166 (by decide) ?_
    refine tq_icmp_ge dX8_goStroke_169 rfl ?_ ?_
    · exact wfm_goStroke_j185 ⟨some (.ref M), rfl⟩ ⟨some (.int v1), rfl⟩ j2 j3 j4 j5 j6 j7 _ _ _
    · refine tq_aload_n dX8_goStroke_172 rfl ?_
      refine tm_ga (j := 23) dX8_goStroke_173 rfl rfl ?_
      refine tq_bipush (v := 12) dX8_goStroke_176 (by decide) ?_
      refine tq_iload_n dX8_goStroke_178 rfl ?_
      refine tq_iadd dX8_goStroke_179 ?_
      refine tq_dup2 dX8_goStroke_180 rfl rfl ?_
      refine tm_ild dX8_goStroke_181 rfl (fun x181 => ?_)
      refine tq_iconst (v := 1) dX8_goStroke_182 (by decide) ?_
      refine tq_iadd dX8_goStroke_183 ?_
      refine tm_ist dX8_goStroke_184 rfl (fun s184 => ?_)
      exact wfm_goStroke_j185 ⟨some (.ref M), rfl⟩ ⟨some (.int v1), rfl⟩ j2 j3 j4 j5 j6 j7 _ _ _
theorem wfm_goStroke_j130 {G : ai_G} {d M : Nat} {h0 : ai_H} (j2 : JV) (j3 : JV) (j4 : JV) (j5 : JV) (j6 : JV) (j9 : JV)   (s : mS) (v1 : Int32) (v7 : Int32) (v8 : Int32) (t0 : Int32): Tj G (d + 3) 171 (PmI M h0) (fm_goStroke_j130 s v1 v7 v8 t0) 130 [some (.ref M), some (.int v1), j2.1, j3.1, j4.1, j5.1, j6.1, some (.int v7), some (.int v8), j9.1] [.int t0] (mH M s h0) := by
  unfold fm_goStroke_j130
  refine tq_istore (L' := [_, _, _, _, _, _, _, _, _, _]) dX8_goStroke_130 (Nat.le_of_ble_eq_true rfl) rfl ?_
  refine tq_aload_n dX8_goStroke_132 rfl ?_
  refine tm_ga (j := 23) dX8_goStroke_133 rfl rfl ?_
  refine tq_bipush (v := 8) dX8_goStroke_136 (by decide) ?_
  refine tq_iload_n dX8_goStroke_138 rfl ?_
  refine tq_iadd dX8_goStroke_139 ?_
  refine tq_iload dX8_goStroke_140 rfl ?_
  refine tq_if_eq dX8_goStroke_142 rfl ?_ ?_
  · refine tq_iload dX8_goStroke_149 rfl ?_
    exact wfm_goStroke_j151 j2 j3 j4 j5 j6 ⟨some (.int v7), rfl⟩ _ _ _ _ _ _
  · refine tq_iconst (v := 0) dX8_goStroke_145 (by decide) ?_
    refine tq_goto dX8_goStroke_146 rfl ?_
    exact wfm_goStroke_j151 j2 j3 j4 j5 j6 ⟨some (.int v7), rfl⟩ _ _ _ _ _ _
theorem wfm_goStroke_j112 {G : ai_G} {d M : Nat} {h0 : ai_H} (j2 : JV) (j3 : JV) (j4 : JV) (j5 : JV) (j6 : JV) (j7 : JV) (j9 : JV)   (s : mS) (v1 : Int32) (v8 : Int32) (t0 : Int32): Tj G (d + 3) 171 (PmI M h0) (fm_goStroke_j112 s v1 v8 t0) 112 [some (.ref M), some (.int v1), j2.1, j3.1, j4.1, j5.1, j6.1, j7.1, some (.int v8), j9.1] [.int t0] (mH M s h0) := by
  unfold fm_goStroke_j112
  refine tq_istore (L' := [_, _, _, _, _, _, _, _, _, _]) dX8_goStroke_112 (Nat.le_of_ble_eq_true rfl) (st1_jv (i := 6) (j := j6) rfl rfl) ?_
  refine tq_iload dX8_goStroke_114 rfl ?_
  refine tq_aload_n dX8_goStroke_116 rfl ?_
  refine tm_ga (j := 20) dX8_goStroke_117 rfl rfl ?_
  refine tq_iload_n dX8_goStroke_120 rfl ?_
  refine tm_ild dX8_goStroke_121 rfl (fun x121 => ?_)
  refine tq_icmp_le dX8_goStroke_122 rfl ?_ ?_
  · refine tq_iconst (v := 0) dX8_goStroke_129 (by decide) ?_
    exact wfm_goStroke_j130 j2 j3 j4 j5 j6 j9 _ _ _ _ _
  · refine tq_iconst (v := 1) dX8_goStroke_125 (by decide) ?_
    refine tq_goto dX8_goStroke_126 rfl ?_
    exact wfm_goStroke_j130 j2 j3 j4 j5 j6 j9 _ _ _ _ _
theorem wfm_goStroke_j85 {G : ai_G} {d M : Nat} {h0 : ai_H} (j2 : JV) (j3 : JV) (j4 : JV) (j5 : JV) (j6 : JV) (j9 : JV)   (s : mS) (v1 : Int32) (v7 : Int32) (v8 : Int32): Tj G (d + 3) 171 (PmI M h0) (fm_goStroke_j85 s v1 v7 v8) 85 [some (.ref M), some (.int v1), j2.1, j3.1, j4.1, j5.1, j6.1, some (.int v7), some (.int v8), j9.1] [] (mH M s h0) := by
  unfold fm_goStroke_j85
  refine tq_aload_n dX8_goStroke_85 rfl ?_
  refine tm_ga (j := 23) dX8_goStroke_86 rfl rfl ?_
  refine tq_bipush (v := 16) dX8_goStroke_89 (by decide) ?_
  refine tq_iload_n dX8_goStroke_91 rfl ?_
  refine tq_iadd dX8_goStroke_92 ?_
  refine tq_dup2 dX8_goStroke_93 rfl rfl ?_
  refine tm_ild dX8_goStroke_94 rfl (fun x94 => ?_)
  refine tq_iconst (v := 1) dX8_goStroke_95 (by decide) ?_
  refine tq_iadd dX8_goStroke_96 ?_
  refine tm_ist dX8_goStroke_97 rfl (fun s97 => ?_)
  refine tq_iload dX8_goStroke_98 rfl ?_
  refine tq_bipush (v := 99) dX8_goStroke_100 (by decide) ?_
  refine tq_icmp_le dX8_goStroke_102 rfl ?_ ?_
  · refine tq_iload dX8_goStroke_110 rfl ?_
    exact wfm_goStroke_j112 j2 j3 j4 j5 j6 ⟨some (.int v7), rfl⟩ j9 _ _ _ _
  · refine tq_bipush (v := 99) dX8_goStroke_105 (by decide) ?_
    refine tq_goto dX8_goStroke_107 rfl ?_
    exact wfm_goStroke_j112 j2 j3 j4 j5 j6 ⟨some (.int v7), rfl⟩ j9 _ _ _ _
theorem wfm_goStroke {G : ai_G} {d M : Nat} {h0 : ai_H} (s : mS) (v1 : Int32) (v2 : Int32) (v3 : Int32) (v4 : Int32) : ∀ r, fm_goStroke s v1 v2 v3 v4 = some r → (PmI M h0) r (ai_call G (d + 4) 171 [.ref M, .int v1, .int v2, .int v3, .int v4] (mH M s h0)) := by
  refine tq_meth (P := (PmI M h0)) (d := (d + 3)) (Nat.le_of_ble_eq_true rfl) ?_
  show Tj G (d + 3) 171 (PmI M h0) (fm_goStroke s v1 v2 v3 v4) 0 [some (.ref M), some (.int v1), some (.int v2), some (.int v3), some (.int v4), none, none, none, none, none] [] (mH M s h0)
  unfold fm_goStroke
  refine tq_aload_n dX8_goStroke_0 rfl ?_
  refine tm_ga (j := 23) dX8_goStroke_1 rfl rfl ?_
  refine tq_iconst (v := 4) dX8_goStroke_4 (by decide) ?_
  refine tq_iload_n dX8_goStroke_5 rfl ?_
  refine tq_iadd dX8_goStroke_6 ?_
  refine tm_ild dX8_goStroke_7 rfl (fun x7 => ?_)
  refine tq_iload_n dX8_goStroke_8 rfl ?_
  refine tq_iadd dX8_goStroke_9 ?_
  refine tq_istore (L' := [_, _, _, _, _, _, _, _, _, _]) dX8_goStroke_10 (Nat.le_of_ble_eq_true rfl) rfl ?_
  refine tq_aload_n dX8_goStroke_12 rfl ?_
  refine tq_aload_n dX8_goStroke_13 rfl ?_
  refine tm_ga (j := 23) dX8_goStroke_14 rfl rfl ?_
  refine tq_iload_n dX8_goStroke_17 rfl ?_
  refine tm_ild dX8_goStroke_18 rfl (fun x18 => ?_)
  refine tq_aload_n dX8_goStroke_19 rfl ?_
  refine tm_ga (j := 23) dX8_goStroke_20 rfl rfl ?_
  refine tq_iconst (v := 4) dX8_goStroke_23 (by decide) ?_
  refine tq_iload_n dX8_goStroke_24 rfl ?_
  refine tq_iadd dX8_goStroke_25 ?_
  refine tm_ild dX8_goStroke_26 rfl (fun x26 => ?_)
  refine tq_iload_n dX8_goStroke_27 rfl ?_
  refine tq_iload dX8_goStroke_28 rfl ?_
  refine tm_c4_i dX8_goStroke_30 rfl rfl rfl (Nat.le_of_ble_eq_true rfl) (wfm_columnBy (d := d + 1) _ _ _ _ _) (fun p30 => ?_)
  refine tq_istore (L' := [_, _, _, _, _, _, _, _, _, _]) dX8_goStroke_33 (Nat.le_of_ble_eq_true rfl) rfl ?_
  refine tq_aload_n dX8_goStroke_35 rfl ?_
  refine tm_ga (j := 23) dX8_goStroke_36 rfl rfl ?_
  refine tq_bipush (v := 8) dX8_goStroke_39 (by decide) ?_
  refine tq_iload_n dX8_goStroke_41 rfl ?_
  refine tq_iadd dX8_goStroke_42 ?_
  refine tm_ild dX8_goStroke_43 rfl (fun x43 => ?_)
  refine tq_aload_n dX8_goStroke_44 rfl ?_
  refine tq_iload_n dX8_goStroke_45 rfl ?_
  refine tm_c1_I dX8_goStroke_46 rfl rfl rfl (Nat.le_of_ble_eq_true rfl) (wfm_hotterOf (d := d) _ _) (fun p46 => ?_)
  refine tq_iadd dX8_goStroke_49 ?_
  refine tq_istore (L' := [_, _, _, _, _, _, _, _, _, _]) dX8_goStroke_50 (Nat.le_of_ble_eq_true rfl) rfl ?_
  refine tq_aload_n dX8_goStroke_52 rfl ?_
  refine tq_iload dX8_goStroke_53 rfl ?_
  refine tq_iload dX8_goStroke_55 rfl ?_
  refine tm_c2_i dX8_goStroke_57 rfl rfl rfl (Nat.le_of_ble_eq_true rfl) (wfm_isIron (d := d + 2) _ _ _) (fun p57 => ?_)
  refine tq_istore (L' := [_, _, _, _, _, _, _, _, _, _]) dX8_goStroke_60 (Nat.le_of_ble_eq_true rfl) rfl ?_
  refine tq_iload dX8_goStroke_62 rfl ?_
  refine tq_if_ne dX8_goStroke_64 rfl ?_ ?_
  · exact wfm_goStroke_j85 ⟨some (.int v2), rfl⟩ ⟨some (.int v3), rfl⟩ ⟨some (.int v4), rfl⟩ ⟨some (.int (x7 + v3)), rfl⟩ ⟨some (.int p30), rfl⟩ ⟨none, rfl⟩ _ _ _ _
  · refine tq_aload_n dX8_goStroke_67 rfl ?_
    refine tm_ga (j := 23) dX8_goStroke_68 rfl rfl ?_
    refine tq_iload_n dX8_goStroke_71 rfl ?_
    refine tq_iload dX8_goStroke_72 rfl ?_
    refine tm_ist dX8_goStroke_74 rfl (fun s74 => ?_)
    refine tq_aload_n dX8_goStroke_75 rfl ?_
    refine tm_ga (j := 23) dX8_goStroke_76 rfl rfl ?_
    refine tq_iconst (v := 4) dX8_goStroke_79 (by decide) ?_
    refine tq_iload_n dX8_goStroke_80 rfl ?_
    refine tq_iadd dX8_goStroke_81 ?_
    refine tq_iload dX8_goStroke_82 rfl ?_
    refine tm_ist dX8_goStroke_84 rfl (fun s84 => ?_)
    exact wfm_goStroke_j85 ⟨some (.int v2), rfl⟩ ⟨some (.int v3), rfl⟩ ⟨some (.int v4), rfl⟩ ⟨some (.int (x7 + v3)), rfl⟩ ⟨some (.int p30), rfl⟩ ⟨none, rfl⟩ _ _ _ _
abbrev Pfm_keepAir_b2 (G : ai_G) (d M : Nat) (h0 : ai_H)  : (Int32 × mS) ⊕ mS → Option ai_R → Prop := Sum.elim (fun (q : Int32 × mS) run => ∃ J : Unit, run = ai_run G d 172 2 [some (.ref M), some (.int q.1)] [] (mH M q.2 h0)) (fun (q : mS) run => ∃ J : JV × JV, run = ai_run G d 172 26 [J.1.1, J.2.1] [] (mH M q h0))
theorem Bfm_keepAir_b2 {G : ai_G} {d M : Nat} {h0 : ai_H}  (b0 : Int32) (b1 : mS) (J : Unit) : Tj G d 172 (Pfm_keepAir_b2 G d M h0) (some (.inl (b0, b1))) 2 [some (.ref M), some (.int b0)] [] (mH M b1 h0) := tq_back J rfl rfl
theorem Efm_keepAir_b2 {G : ai_G} {d M : Nat} {h0 : ai_H}  (b0 : mS) (J : JV × JV) : Tj G d 172 (Pfm_keepAir_b2 G d M h0) (some (.inr b0)) 26 [J.1.1, J.2.1] [] (mH M b0 h0) := tq_exit J rfl rfl
theorem wfm_keepAir_b2 {G : ai_G} {d M : Nat} {h0 : ai_H}  (q : Int32 × mS) (J : Unit) : Tj G d 172 (Pfm_keepAir_b2 G d M h0) (fm_keepAir_b2 q) 2 [some (.ref M), some (.int q.1)] [] (mH M q.2 h0) := by
  unfold fm_keepAir_b2
  refine tq_iload_n dX8_keepAir_2 rfl ?_
  refine tq_bipush (v := 28) dX8_keepAir_3 (by decide) ?_
  refine tq_icmp_ge dX8_keepAir_5 rfl ?_ ?_
  · exact Efm_keepAir_b2 _ (⟨some (.ref M), rfl⟩, ⟨some (.int q.1), rfl⟩)
  · refine tq_aload_n dX8_keepAir_8 rfl ?_
    refine tm_ga (j := 22) dX8_keepAir_9 rfl rfl ?_
    refine tq_iload_n dX8_keepAir_12 rfl ?_
    refine tq_aload_n dX8_keepAir_13 rfl ?_
    refine tm_ga (j := 23) dX8_keepAir_14 rfl rfl ?_
    refine tq_iload_n dX8_keepAir_17 rfl ?_
    refine tm_ild dX8_keepAir_18 rfl (fun x18 => ?_)
    refine tm_ist dX8_keepAir_19 rfl (fun s19 => ?_)
    refine tq_iinc (v := (q.1 + 1)) (L' := [_, _]) dX8_keepAir_20 rfl (Nat.le_of_ble_eq_true rfl) rfl rfl ?_
    refine tq_goto dX8_keepAir_23 rfl ?_
    exact Bfm_keepAir_b2 _ _ ()
theorem Sfm_keepAir_b2 {G : ai_G} {d M : Nat} {h0 : ai_H} {α : Type} {P : α → Option ai_R → Prop}  (b0 : Int32) (b1 : mS) (J : Unit) {r : mS → Option α} (kk : ∀ (q : mS) (J : JV × JV), Tj G d 172 P (r q) 26 [J.1.1, J.2.1] [] (mH M q h0)) : Tj G d 172 P ((lp fm_keepAir_b2 (b0, b1)).bind r) 2 [some (.ref M), some (.int b0)] [] (mH M b1 h0) := tq_lp1 (J := J) (fun q J => wfm_keepAir_b2  q J) rfl rfl kk
theorem wfm_keepAir {G : ai_G} {d M : Nat} {h0 : ai_H} (s : mS) : ∀ r, fm_keepAir s = some r → (PmV M h0) r (ai_call G (d + 1) 172 [.ref M] (mH M s h0)) := by
  refine tq_meth (P := (PmV M h0)) (d := d) (Nat.le_of_ble_eq_true rfl) ?_
  show Tj G d 172 (PmV M h0) (fm_keepAir s) 0 [some (.ref M), none] [] (mH M s h0)
  unfold fm_keepAir
  refine tq_iconst (v := 0) dX8_keepAir_0 (by decide) ?_
  refine tq_istore_n (L' := [_, _]) dX8_keepAir_1 (Nat.le_of_ble_eq_true rfl) rfl ?_
  refine Sfm_keepAir_b2 _ _ () (fun q2 J2 => ?_)
  exact tq_return dX8_keepAir_26 rfl rfl
theorem wfm_stroke_j83 {G : ai_G} {d M : Nat} {h0 : ai_H} (j1 : JV) (j2 : JV) (j3 : JV) (j4 : JV)   (s : mS) (t1 : Int32) (t2 : Int32) (t3 : Int32): Tj G (d + 4) 173 (PmI M h0) (fm_stroke_j83 s t1 t2 t3) 83 [some (.ref M), j1.1, j2.1, j3.1, j4.1] [.int t3, .int t2, .int t1, .ref M] (mH M s h0) := by
  unfold fm_stroke_j83
  refine tq_aload_n dX8_stroke_83 rfl ?_
  refine tm_ga (j := 23) dX8_stroke_84 rfl rfl ?_
  refine tq_bipush (v := 27) dX8_stroke_87 (by decide) ?_
  refine tm_ild dX8_stroke_89 rfl (fun x89 => ?_)
  refine tq_bipush (v := 100) dX8_stroke_90 (by decide) ?_
  refine tq_irem dX8_stroke_92 (fun x92 => ?_)
  refine tq_aload_n dX8_stroke_93 rfl ?_
  refine tm_gi (k9 := 50) dX8_stroke_94 rfl rfl ?_
  refine tq_icmp_ge dX8_stroke_97 rfl ?_ ?_
  · refine tq_iconst (v := 1) dX8_stroke_104 (by decide) ?_
    refine tm_c4_I dX8_stroke_105 rfl rfl rfl (Nat.le_of_ble_eq_true rfl) (wfm_goStroke (d := d) _ _ _ _ _) (fun p105 => ?_)
    refine tq_istore (L' := [_, _, _, _, _]) dX8_stroke_108 (Nat.le_of_ble_eq_true rfl) (st1_jv (i := 3) (j := j3) rfl rfl) ?_
    refine tq_aload_n dX8_stroke_110 rfl ?_
    refine tm_c0_V dX8_stroke_111 rfl rfl rfl (Nat.le_of_ble_eq_true rfl) (wfm_keepAir (d := d + 3) _) (fun p111 => ?_)
    refine tq_iload dX8_stroke_114 rfl ?_
    exact tq_ireturn dX8_stroke_116 rfl rfl
  · refine tq_iconst (v := 2) dX8_stroke_100 (by decide) ?_
    refine tq_goto dX8_stroke_101 rfl ?_
    refine tm_c4_I dX8_stroke_105 rfl rfl rfl (Nat.le_of_ble_eq_true rfl) (wfm_goStroke (d := d) _ _ _ _ _) (fun p105 => ?_)
    refine tq_istore (L' := [_, _, _, _, _]) dX8_stroke_108 (Nat.le_of_ble_eq_true rfl) (st1_jv (i := 3) (j := j3) rfl rfl) ?_
    refine tq_aload_n dX8_stroke_110 rfl ?_
    refine tm_c0_V dX8_stroke_111 rfl rfl rfl (Nat.le_of_ble_eq_true rfl) (wfm_keepAir (d := d + 3) _) (fun p111 => ?_)
    refine tq_iload dX8_stroke_114 rfl ?_
    exact tq_ireturn dX8_stroke_116 rfl rfl
theorem wfm_stroke_j37 {G : ai_G} {d M : Nat} {h0 : ai_H} (j4 : JV)   (s : mS) (v1 : Int32) (v2 : Int32) (v3 : Int32) (t0 : Int32) (t1 : Int32): Tj G (d + 4) 173 (PmI M h0) (fm_stroke_j37 s v1 v2 v3 t0 t1) 37 [some (.ref M), some (.int v1), some (.int v2), some (.int v3), j4.1] [.int t1, .int t0] (mH M s h0) := by
  unfold fm_stroke_j37
  refine tq_icmp_ne dX8_stroke_37 rfl ?_ ?_
  · refine tq_aload_n dX8_stroke_42 rfl ?_
    refine tm_c0_V dX8_stroke_43 rfl rfl rfl (Nat.le_of_ble_eq_true rfl) (wfm_act (d := d + 2) _) (fun p43 => ?_)
    refine tq_aload_n dX8_stroke_46 rfl ?_
    refine tm_ga (j := 23) dX8_stroke_47 rfl rfl ?_
    refine tq_bipush (v := 27) dX8_stroke_50 (by decide) ?_
    refine tq_aload_n dX8_stroke_52 rfl ?_
    refine tm_ga (j := 23) dX8_stroke_53 rfl rfl ?_
    refine tq_bipush (v := 27) dX8_stroke_56 (by decide) ?_
    refine tm_ild dX8_stroke_58 rfl (fun x58 => ?_)
    refine tq_sipush (v := 137) dX8_stroke_59 (by decide) ?_
    refine tq_imul dX8_stroke_62 ?_
    refine tq_bipush (v := 71) dX8_stroke_63 (by decide) ?_
    refine tq_iadd dX8_stroke_65 ?_
    refine tq_sipush (v := 1000) dX8_stroke_66 (by decide) ?_
    refine tq_irem dX8_stroke_69 (fun x69 => ?_)
    refine tm_ist dX8_stroke_70 rfl (fun s70 => ?_)
    refine tq_aload_n dX8_stroke_71 rfl ?_
    refine tq_iload_n dX8_stroke_72 rfl ?_
    refine tq_iload_n dX8_stroke_73 rfl ?_
    refine tq_iload_n dX8_stroke_74 rfl ?_
    refine tq_if_eq dX8_stroke_75 rfl ?_ ?_
    · refine tq_iconst (v := (-1)) dX8_stroke_82 (by decide) ?_
      exact wfm_stroke_j83 ⟨some (.int v1), rfl⟩ ⟨some (.int v2), rfl⟩ ⟨some (.int v3), rfl⟩ j4 _ _ _ _
    · refine tq_iconst (v := 1) dX8_stroke_78 (by decide) ?_
      refine tq_goto dX8_stroke_79 rfl ?_
      exact wfm_stroke_j83 ⟨some (.int v1), rfl⟩ ⟨some (.int v2), rfl⟩ ⟨some (.int v3), rfl⟩ j4 _ _ _ _
  · refine tq_iconst (v := (-1)) dX8_stroke_40 (by decide) ?_
    exact tq_ireturn dX8_stroke_41 rfl rfl
theorem wfm_stroke {G : ai_G} {d M : Nat} {h0 : ai_H} (s : mS) (v1 : Int32) (v2 : Int32) (v3 : Int32) : ∀ r, fm_stroke s v1 v2 v3 = some r → (PmI M h0) r (ai_call G (d + 5) 173 [.ref M, .int v1, .int v2, .int v3] (mH M s h0)) := by
  refine tq_meth (P := (PmI M h0)) (d := (d + 4)) (Nat.le_of_ble_eq_true rfl) ?_
  show Tj G (d + 4) 173 (PmI M h0) (fm_stroke s v1 v2 v3) 0 [some (.ref M), some (.int v1), some (.int v2), some (.int v3), none] [] (mH M s h0)
  unfold fm_stroke
  refine tq_aload_n dX8_stroke_0 rfl ?_
  refine tq_iload_n dX8_stroke_1 rfl ?_
  refine tm_c1_i dX8_stroke_2 rfl rfl rfl (Nat.le_of_ble_eq_true rfl) (wfm_isBoard (d := d + 2) _ _) (fun p2 => ?_)
  refine tq_if_eq dX8_stroke_5 rfl ?_ ?_
  · refine tq_iconst (v := (-1)) dX8_stroke_40 (by decide) ?_
    exact tq_ireturn dX8_stroke_41 rfl rfl
  · refine tq_iload_n dX8_stroke_8 rfl ?_
    refine tq_iconst (v := (-1)) dX8_stroke_9 (by decide) ?_
    refine tq_iconst (v := 1) dX8_stroke_10 (by decide) ?_
    refine ts_c3_i dX8_stroke_11 rfl rfl rfl (Nat.le_of_ble_eq_true rfl) (wfm_isIn (d := d + 3) _ _ _) (fun p11 => ?_)
    refine tq_if_eq dX8_stroke_14 rfl ?_ ?_
    · refine tq_iconst (v := (-1)) dX8_stroke_40 (by decide) ?_
      exact tq_ireturn dX8_stroke_41 rfl rfl
    · refine tq_aload_n dX8_stroke_17 rfl ?_
      refine tm_ga (j := 22) dX8_stroke_18 rfl rfl ?_
      refine tq_iconst (v := 4) dX8_stroke_21 (by decide) ?_
      refine tq_iload_n dX8_stroke_22 rfl ?_
      refine tq_iadd dX8_stroke_23 ?_
      refine tm_ild dX8_stroke_24 rfl (fun x24 => ?_)
      refine tq_iload_n dX8_stroke_25 rfl ?_
      refine tq_if_eq dX8_stroke_26 rfl ?_ ?_
      · refine tq_iconst (v := 0) dX8_stroke_36 (by decide) ?_
        exact wfm_stroke_j37 ⟨none, rfl⟩ _ _ _ _ _ _
      · refine tq_aload_n dX8_stroke_29 rfl ?_
        refine tm_gi (k9 := 47) dX8_stroke_30 rfl rfl ?_
        refine tq_goto dX8_stroke_33 rfl ?_
        exact wfm_stroke_j37 ⟨none, rfl⟩ _ _ _ _ _ _
theorem wfm_isAtBank {G : ai_G} {d M : Nat} {h0 : ai_H} (s : mS) (v1 : Int32) : ∀ r, fm_isAtBank s v1 = some r → (Pi (mH M s h0)) r (ai_call G (d + 1) 177 [.ref M, .int v1] (mH M s h0)) := by
  refine tq_meth (P := (Pi (mH M s h0))) (d := d) (Nat.le_of_ble_eq_true rfl) ?_
  show Tj G d 177 (Pi (mH M s h0)) (fm_isAtBank s v1) 0 [some (.ref M), some (.int v1)] [] (mH M s h0)
  unfold fm_isAtBank
  refine tq_aload_n dX8_isAtBank_0 rfl ?_
  refine tm_ga (j := 22) dX8_isAtBank_1 rfl rfl ?_
  refine tq_iconst (v := 4) dX8_isAtBank_4 (by decide) ?_
  refine tq_iload_n dX8_isAtBank_5 rfl ?_
  refine tq_iadd dX8_isAtBank_6 ?_
  refine tm_ild dX8_isAtBank_7 rfl (fun x7 => ?_)
  refine tq_if_eq dX8_isAtBank_8 rfl ?_ ?_
  · refine tq_iconst (v := 1) dX8_isAtBank_26 (by decide) ?_
    refine tq_goto dX8_isAtBank_27 rfl ?_
    exact tq_ireturn dX8_isAtBank_31 (by decide) rfl
  · refine tq_aload_n dX8_isAtBank_11 rfl ?_
    refine tm_ga (j := 22) dX8_isAtBank_12 rfl rfl ?_
    refine tq_iconst (v := 4) dX8_isAtBank_15 (by decide) ?_
    refine tq_iload_n dX8_isAtBank_16 rfl ?_
    refine tq_iadd dX8_isAtBank_17 ?_
    refine tm_ild dX8_isAtBank_18 rfl (fun x18 => ?_)
    refine tq_aload_n dX8_isAtBank_19 rfl ?_
    refine tm_gi (k9 := 47) dX8_isAtBank_20 rfl rfl ?_
    refine tq_icmp_ne dX8_isAtBank_23 rfl ?_ ?_
    · refine tq_iconst (v := 0) dX8_isAtBank_30 (by decide) ?_
      exact tq_ireturn dX8_isAtBank_31 (by decide) rfl
    · refine tq_iconst (v := 1) dX8_isAtBank_26 (by decide) ?_
      refine tq_goto dX8_isAtBank_27 rfl ?_
      exact tq_ireturn dX8_isAtBank_31 (by decide) rfl
theorem wfm_bankOf {G : ai_G} {d M : Nat} {h0 : ai_H} (s : mS) (v1 : Int32) : ∀ r, fm_bankOf s v1 = some r → (Pi (mH M s h0)) r (ai_call G (d + 1) 178 [.ref M, .int v1] (mH M s h0)) := by
  refine tq_meth (P := (Pi (mH M s h0))) (d := d) (Nat.le_of_ble_eq_true rfl) ?_
  show Tj G d 178 (Pi (mH M s h0)) (fm_bankOf s v1) 0 [some (.ref M), some (.int v1)] [] (mH M s h0)
  unfold fm_bankOf
  refine tq_iload_n dX8_bankOf_0 rfl ?_
  refine tq_if_ne dX8_bankOf_1 rfl ?_ ?_
  · refine tq_bipush (v := (-2)) dX8_bankOf_8 (by decide) ?_
    exact tq_ireturn dX8_bankOf_10 rfl rfl
  · refine tq_iconst (v := (-1)) dX8_bankOf_4 (by decide) ?_
    refine tq_goto dX8_bankOf_5 rfl ?_
    exact tq_ireturn dX8_bankOf_10 rfl rfl
theorem wfm_stow {G : ai_G} {d M : Nat} {h0 : ai_H} (s : mS) (v1 : Int32) (v2 : Int32) : ∀ r, fm_stow s v1 v2 = some r → (PmI M h0) r (ai_call G (d + 3) 179 [.ref M, .int v1, .int v2] (mH M s h0)) := by
  refine tq_meth (P := (PmI M h0)) (d := (d + 2)) (Nat.le_of_ble_eq_true rfl) ?_
  show Tj G (d + 2) 179 (PmI M h0) (fm_stow s v1 v2) 0 [some (.ref M), some (.int v1), some (.int v2)] [] (mH M s h0)
  unfold fm_stow
  refine tq_aload_n dX8_stow_0 rfl ?_
  refine tm_c0_V dX8_stow_1 rfl rfl rfl (Nat.le_of_ble_eq_true rfl) (wfm_fill (d := d + 1) _) (fun p1 => ?_)
  refine tq_aload_n dX8_stow_4 rfl ?_
  refine tq_iload_n dX8_stow_5 rfl ?_
  refine tm_c1_i dX8_stow_6 rfl rfl rfl (Nat.le_of_ble_eq_true rfl) (wfm_isLoad (d := d) _ _) (fun p6 => ?_)
  refine tq_if_eq dX8_stow_9 rfl ?_ ?_
  · refine tq_iconst (v := (-1)) dX8_stow_73 (by decide) ?_
    exact tq_ireturn dX8_stow_74 rfl rfl
  · refine tq_aload_n dX8_stow_12 rfl ?_
    refine tq_iload_n dX8_stow_13 rfl ?_
    refine tm_c1_i dX8_stow_14 rfl rfl rfl (Nat.le_of_ble_eq_true rfl) (wfm_isBoard (d := d) _ _) (fun p14 => ?_)
    refine tq_if_eq dX8_stow_17 rfl ?_ ?_
    · refine tq_iconst (v := (-1)) dX8_stow_73 (by decide) ?_
      exact tq_ireturn dX8_stow_74 rfl rfl
    · refine tq_aload_n dX8_stow_20 rfl ?_
      refine tq_iload_n dX8_stow_21 rfl ?_
      refine tm_c1_i dX8_stow_22 rfl rfl rfl (Nat.le_of_ble_eq_true rfl) (wfm_isAtBank (d := d + 1) _ _) (fun p22 => ?_)
      refine tq_if_eq dX8_stow_25 rfl ?_ ?_
      · refine tq_iconst (v := (-1)) dX8_stow_73 (by decide) ?_
        exact tq_ireturn dX8_stow_74 rfl rfl
      · refine tq_aload_n dX8_stow_28 rfl ?_
        refine tm_ga (j := 22) dX8_stow_29 rfl rfl ?_
        refine tq_bipush (v := 20) dX8_stow_32 (by decide) ?_
        refine tq_iload_n dX8_stow_34 rfl ?_
        refine tq_iadd dX8_stow_35 ?_
        refine tm_ild dX8_stow_36 rfl (fun x36 => ?_)
        refine tq_aload_n dX8_stow_37 rfl ?_
        refine tq_aload_n dX8_stow_38 rfl ?_
        refine tm_ga (j := 22) dX8_stow_39 rfl rfl ?_
        refine tq_iconst (v := 4) dX8_stow_42 (by decide) ?_
        refine tq_iload_n dX8_stow_43 rfl ?_
        refine tq_iadd dX8_stow_44 ?_
        refine tm_ild dX8_stow_45 rfl (fun x45 => ?_)
        refine tm_c1_i dX8_stow_46 rfl rfl rfl (Nat.le_of_ble_eq_true rfl) (wfm_bankOf (d := d + 1) _ _) (fun p46 => ?_)
        refine tq_icmp_ne dX8_stow_49 rfl ?_ ?_
        · refine tq_iconst (v := (-1)) dX8_stow_73 (by decide) ?_
          exact tq_ireturn dX8_stow_74 rfl rfl
        · refine tq_aload_n dX8_stow_52 rfl ?_
          refine tq_iload_n dX8_stow_53 rfl ?_
          refine tm_c1_i dX8_stow_54 rfl rfl rfl (Nat.le_of_ble_eq_true rfl) (wfm_burdenOf (d := d + 1) _ _) (fun p54 => ?_)
          refine tq_aload_n dX8_stow_57 rfl ?_
          refine tm_ga (j := 21) dX8_stow_58 rfl rfl ?_
          refine tq_iload_n dX8_stow_61 rfl ?_
          refine tm_ild dX8_stow_62 rfl (fun x62 => ?_)
          refine tq_iadd dX8_stow_63 ?_
          refine tq_aload_n dX8_stow_64 rfl ?_
          refine tm_ga (j := 18) dX8_stow_65 rfl rfl ?_
          refine tq_iload_n dX8_stow_68 rfl ?_
          refine tm_ild dX8_stow_69 rfl (fun x69 => ?_)
          refine tq_icmp_le dX8_stow_70 rfl ?_ ?_
          · refine tq_aload_n dX8_stow_75 rfl ?_
            refine tm_c0_V dX8_stow_76 rfl rfl rfl (Nat.le_of_ble_eq_true rfl) (wfm_act (d := d) _) (fun p76 => ?_)
            refine tq_aload_n dX8_stow_79 rfl ?_
            refine tm_ga (j := 23) dX8_stow_80 rfl rfl ?_
            refine tq_bipush (v := 20) dX8_stow_83 (by decide) ?_
            refine tq_iload_n dX8_stow_85 rfl ?_
            refine tq_iadd dX8_stow_86 ?_
            refine tq_iload_n dX8_stow_87 rfl ?_
            refine tm_ist dX8_stow_88 rfl (fun s88 => ?_)
            refine tq_aload_n dX8_stow_89 rfl ?_
            refine tm_c0_V dX8_stow_90 rfl rfl rfl (Nat.le_of_ble_eq_true rfl) (wfm_keepAir (d := d + 1) _) (fun p90 => ?_)
            refine tq_aload_n dX8_stow_93 rfl ?_
            refine tq_iload_n dX8_stow_94 rfl ?_
            refine tm_c1_i dX8_stow_95 rfl rfl rfl (Nat.le_of_ble_eq_true rfl) (wfm_burdenOf (d := d + 1) _ _) (fun p95 => ?_)
            exact tq_ireturn dX8_stow_98 rfl rfl
          · refine tq_iconst (v := (-1)) dX8_stow_73 (by decide) ?_
            exact tq_ireturn dX8_stow_74 rfl rfl
theorem wfm_take {G : ai_G} {d M : Nat} {h0 : ai_H} (s : mS) (v1 : Int32) : ∀ r, fm_take s v1 = some r → (PmI M h0) r (ai_call G (d + 3) 181 [.ref M, .int v1] (mH M s h0)) := by
  refine tq_meth (P := (PmI M h0)) (d := (d + 2)) (Nat.le_of_ble_eq_true rfl) ?_
  show Tj G (d + 2) 181 (PmI M h0) (fm_take s v1) 0 [some (.ref M), some (.int v1), none] [] (mH M s h0)
  unfold fm_take
  refine tq_aload_n dX8_take_0 rfl ?_
  refine tq_iload_n dX8_take_1 rfl ?_
  refine tm_c1_i dX8_take_2 rfl rfl rfl (Nat.le_of_ble_eq_true rfl) (wfm_isLoad (d := d) _ _) (fun p2 => ?_)
  refine tq_if_eq dX8_take_5 rfl ?_ ?_
  · refine tq_iconst (v := (-1)) dX8_take_36 (by decide) ?_
    exact tq_ireturn dX8_take_37 rfl rfl
  · refine tq_aload_n dX8_take_8 rfl ?_
    refine tm_ga (j := 22) dX8_take_9 rfl rfl ?_
    refine tq_bipush (v := 20) dX8_take_12 (by decide) ?_
    refine tq_iload_n dX8_take_14 rfl ?_
    refine tq_iadd dX8_take_15 ?_
    refine tm_ild dX8_take_16 rfl (fun x16 => ?_)
    refine tq_if_lt dX8_take_17 rfl ?_ ?_
    · refine tq_iconst (v := (-1)) dX8_take_36 (by decide) ?_
      exact tq_ireturn dX8_take_37 rfl rfl
    · refine tq_aload_n dX8_take_20 rfl ?_
      refine tq_aload_n dX8_take_21 rfl ?_
      refine tm_ga (j := 22) dX8_take_22 rfl rfl ?_
      refine tq_bipush (v := 20) dX8_take_25 (by decide) ?_
      refine tq_iload_n dX8_take_27 rfl ?_
      refine tq_iadd dX8_take_28 ?_
      refine tm_ild dX8_take_29 rfl (fun x29 => ?_)
      refine tm_c1_i dX8_take_30 rfl rfl rfl (Nat.le_of_ble_eq_true rfl) (wfm_isAtBank (d := d + 1) _ _) (fun p30 => ?_)
      refine tq_if_ne dX8_take_33 rfl ?_ ?_
      · refine tq_aload_n dX8_take_38 rfl ?_
        refine tm_c0_V dX8_take_39 rfl rfl rfl (Nat.le_of_ble_eq_true rfl) (wfm_act (d := d) _) (fun p39 => ?_)
        refine tq_aload_n dX8_take_42 rfl ?_
        refine tm_ga (j := 22) dX8_take_43 rfl rfl ?_
        refine tq_bipush (v := 20) dX8_take_46 (by decide) ?_
        refine tq_iload_n dX8_take_48 rfl ?_
        refine tq_iadd dX8_take_49 ?_
        refine tm_ild dX8_take_50 rfl (fun x50 => ?_)
        refine tq_istore_n (L' := [_, _, _]) dX8_take_51 (Nat.le_of_ble_eq_true rfl) rfl ?_
        refine tq_aload_n dX8_take_52 rfl ?_
        refine tm_ga (j := 22) dX8_take_53 rfl rfl ?_
        refine tq_bipush (v := 20) dX8_take_56 (by decide) ?_
        refine tq_iload_n dX8_take_58 rfl ?_
        refine tq_iadd dX8_take_59 ?_
        refine tq_aload_n dX8_take_60 rfl ?_
        refine tq_aload_n dX8_take_61 rfl ?_
        refine tm_ga (j := 22) dX8_take_62 rfl rfl ?_
        refine tq_iconst (v := 4) dX8_take_65 (by decide) ?_
        refine tq_iload_n dX8_take_66 rfl ?_
        refine tq_iadd dX8_take_67 ?_
        refine tm_ild dX8_take_68 rfl (fun x68 => ?_)
        refine tm_c1_i dX8_take_69 rfl rfl rfl (Nat.le_of_ble_eq_true rfl) (wfm_bankOf (d := d + 1) _ _) (fun p69 => ?_)
        refine tm_ist dX8_take_72 rfl (fun s72 => ?_)
        refine tq_iload_n dX8_take_73 rfl ?_
        exact tq_ireturn dX8_take_74 rfl rfl
      · refine tq_iconst (v := (-1)) dX8_take_36 (by decide) ?_
        exact tq_ireturn dX8_take_37 rfl rfl
theorem wfm_cool {G : ai_G} {d M : Nat} {h0 : ai_H} (s : mS) (v1 : Int32) (v2 : Int32) : ∀ r, fm_cool s v1 v2 = some r → (PmI M h0) r (ai_call G (d + 3) 183 [.ref M, .int v1, .int v2] (mH M s h0)) := by
  refine tq_meth (P := (PmI M h0)) (d := (d + 2)) (Nat.le_of_ble_eq_true rfl) ?_
  show Tj G (d + 2) 183 (PmI M h0) (fm_cool s v1 v2) 0 [some (.ref M), some (.int v1), some (.int v2)] [] (mH M s h0)
  unfold fm_cool
  refine tq_aload_n dX8_cool_0 rfl ?_
  refine tq_iload_n dX8_cool_1 rfl ?_
  refine tm_c1_i dX8_cool_2 rfl rfl rfl (Nat.le_of_ble_eq_true rfl) (wfm_isBoard (d := d) _ _) (fun p2 => ?_)
  refine tq_if_eq dX8_cool_5 rfl ?_ ?_
  · refine tq_iconst (v := (-1)) dX8_cool_18 (by decide) ?_
    exact tq_ireturn dX8_cool_19 rfl rfl
  · refine tq_iload_n dX8_cool_8 rfl ?_
    refine tq_iconst (v := 1) dX8_cool_9 (by decide) ?_
    refine tq_bipush (v := 9) dX8_cool_10 (by decide) ?_
    refine ts_c3_i dX8_cool_12 rfl rfl rfl (Nat.le_of_ble_eq_true rfl) (wfm_isIn (d := d + 1) _ _ _) (fun p12 => ?_)
    refine tq_if_ne dX8_cool_15 rfl ?_ ?_
    · refine tq_aload_n dX8_cool_20 rfl ?_
      refine tm_c0_V dX8_cool_21 rfl rfl rfl (Nat.le_of_ble_eq_true rfl) (wfm_act (d := d) _) (fun p21 => ?_)
      refine tq_aload_n dX8_cool_24 rfl ?_
      refine tm_ga (j := 22) dX8_cool_25 rfl rfl ?_
      refine tq_bipush (v := 8) dX8_cool_28 (by decide) ?_
      refine tq_iload_n dX8_cool_30 rfl ?_
      refine tq_iadd dX8_cool_31 ?_
      refine tq_aload_n dX8_cool_32 rfl ?_
      refine tm_ga (j := 22) dX8_cool_33 rfl rfl ?_
      refine tq_bipush (v := 8) dX8_cool_36 (by decide) ?_
      refine tq_iload_n dX8_cool_38 rfl ?_
      refine tq_iadd dX8_cool_39 ?_
      refine tm_ild dX8_cool_40 rfl (fun x40 => ?_)
      refine tq_iload_n dX8_cool_41 rfl ?_
      refine tq_isub dX8_cool_42 ?_
      refine tq_bipush (v := 99) dX8_cool_43 (by decide) ?_
      refine ts_c2_i dX8_cool_45 rfl rfl rfl (Nat.le_of_ble_eq_true rfl) (wfm_within (d := d + 1) _ _) (fun p45 => ?_)
      refine tm_ist dX8_cool_48 rfl (fun s48 => ?_)
      refine tq_aload_n dX8_cool_49 rfl ?_
      refine tm_ga (j := 22) dX8_cool_50 rfl rfl ?_
      refine tq_bipush (v := 8) dX8_cool_53 (by decide) ?_
      refine tq_iload_n dX8_cool_55 rfl ?_
      refine tq_iadd dX8_cool_56 ?_
      refine tm_ild dX8_cool_57 rfl (fun x57 => ?_)
      exact tq_ireturn dX8_cool_58 rfl rfl
    · refine tq_iconst (v := (-1)) dX8_cool_18 (by decide) ?_
      exact tq_ireturn dX8_cool_19 rfl rfl

/-! THE MODEL'S CONSTRUCTOR (printed by tools/decx.py, tools/gen_p4.py) -/
set_option maxRecDepth 100000
/-- the one array of longs lies beneath the store -/
def hL (h0 : ai_H) (a : Nat) : ai_H := (fun b => if b = a then some (.inl (3, 11, .inr (.inl (fun _ => 0)))) else h0.1 b, h0.2)
def nL (y : yS) : yS := (va_up y.1 (yn y) none, yf y, ya y, yr y, ye y, yj y, yn y + 1, yu y + 11)
def mkL (a : Nat) (y : yS) (n : Int32) : Option (Nat × yS) := if yn y = a ∧ n = 11 then some (a, nL y) else none
theorem yH_nL {y : yS} {h0 : ai_H} : ai_push (yH y h0) (.inl (3, 11, .inr (.inl (fun _ => 0)))) 11 = yH (nL y) (hL h0 (yn y)) := by
  have e : (ai_push (yH y h0) (.inl (3, 11, .inr (.inl (fun _ => 0)))) 11).1 = (yH (nL y) (hL h0 (yn y))).1 := by
    funext b
    show (if b = yn y then some (.inl (3, 11, .inr (.inl (fun _ => 0)))) else yC y b (h0.1 b)) = yC (nL y) b (if b = yn y then some (.inl (3, 11, .inr (.inl (fun _ => 0)))) else h0.1 b)
    by_cases hb : b = yn y
    · rw [if_pos hb, if_pos hb]
      unfold yC
      have : yt (nL y) b = none := if_pos hb
      rw [this]
    · rw [if_neg hb, if_neg hb]
      unfold yC
      have : yt (nL y) b = yt y b := if_neg hb
      rw [this]
      rfl
  exact Prod.ext e rfl
section P4
variable {α : Type} {G : ai_G} {d k pc : Nat} {P : α → Option ai_R → Prop} {L : ai_L} {st : List Value} {h0 : ai_H} {y : yS}
theorem ty_newL {a : Nat} {n : Int32} {r : Nat × yS → Option α} (hd : decode (ai_mC k) pc = .ok (.newarray .long, 2)) (kk : ∀ s, Tj G d k P (r s) (pc + 2) L (.ref s.1 :: st) (yH s.2 (hL h0 a))) : Tj G d k P ((mkL a y n).bind r) pc L (.int n :: st) (yH y h0) := by
  refine tx_bind (fun s hs => ?_)
  unfold mkL at hs
  split at hs
  · rename_i c
    obtain ⟨c1, c2⟩ := c
    cases hs
    subst c1
    subst c2
    exact tq_newJ (a := yn y) hd (by decide) rfl yH_nL (kk (yn y, nL y))
  · cases hs
end P4
noncomputable def fy_m_init (G : ai_G) (s : yS) (v0 : Nat) : Option (yS) :=
  (mka 0 s 1600).bind fun s8 =>
  (wR 7 0 s8.2 v0 (some s8.1)).bind fun s10 =>
  (wI 7 3 s10 v0 (-1)).bind fun s15 =>
  (mkL (v0 + 2) s15 11).bind fun s21 =>
  (wR 7 10 s21.2 v0 (some s21.1)).bind fun s23 =>
  (mka 0 s23 320).bind fun s30 =>
  (wR 7 11 s30.2 v0 (some s30.1)).bind fun s32 =>
  (mka 0 s32 320).bind fun s39 =>
  (wR 7 12 s39.2 v0 (some s39.1)).bind fun s41 =>
  (mka 0 s41 320).bind fun s48 =>
  (wR 7 13 s48.2 v0 (some s48.1)).bind fun s50 =>
  (mka 0 s50 320).bind fun s57 =>
  (wR 7 14 s57.2 v0 (some s57.1)).bind fun s59 =>
  (mka 0 s59 160).bind fun s66 =>
  (wR 7 15 s66.2 v0 (some s66.1)).bind fun s68 =>
  (mka 0 s68 64).bind fun s74 =>
  (wR 7 16 s74.2 v0 (some s74.1)).bind fun s76 =>
  (mka 0 s76 6).bind fun s82 =>
  (wR 7 25 s82.2 v0 (some s82.1)).bind fun s84 =>
  (mka 0 s84 56).bind fun s90 =>
  (wR 7 26 s90.2 v0 (some s90.1)).bind fun s92 =>
  (mka 0 s92 56).bind fun s98 =>
  (wR 7 27 s98.2 v0 (some s98.1)).bind fun s100 =>
  (mka 0 s100 4).bind fun s105 =>
  (wR 7 28 s105.2 v0 (some s105.1)).bind fun s107 =>
  (mka 0 s107 4).bind fun s112 =>
  (wR 7 29 s112.2 v0 (some s112.1)).bind fun s114 =>
  (mka 0 s114 4).bind fun s119 =>
  (wR 7 30 s119.2 v0 (some s119.1)).bind fun s121 =>
  (mka 0 s121 7).bind fun s127 =>
  (wR 7 31 s127.2 v0 (some s127.1)).bind fun s129 =>
  (mka 0 s129 56).bind fun s135 =>
  (wR 7 32 s135.2 v0 (some s135.1)).bind fun s137 =>
  (mka 0 s137 56).bind fun s143 =>
  (wR 7 33 s143.2 v0 (some s143.1)).bind fun s145 =>
  (mka 0 s145 4).bind fun s150 =>
  (wR 7 34 s150.2 v0 (some s150.1)).bind fun s152 =>
  (mka 0 s152 4).bind fun s157 =>
  (wR 7 35 s157.2 v0 (some s157.1)).bind fun s159 =>
  (mka 0 s159 4).bind fun s164 =>
  (wR 7 36 s164.2 v0 (some s164.1)).bind fun s166 =>
  (mka 0 s166 7).bind fun s172 =>
  (wR 7 37 s172.2 v0 (some s172.1)).bind fun s174 =>
  (wI 7 46 s174 v0 8).bind fun s180 =>
  (wI 7 47 s180 v0 6).bind fun s186 =>
  (mka 0 s186 28).bind fun s192 =>
  (wR 7 54 s192.2 v0 (some s192.1)).bind fun s194 =>
  (mka 0 s194 28).bind fun s200 =>
  (wR 7 55 s200.2 v0 (some s200.1)).bind fun s202 =>
  (mka 0 s202 1120).bind fun s209 =>
  (wR 7 56 s209.2 v0 (some s209.1)).bind fun s211 =>
  (mka 0 s211 6).bind fun s217 =>
  (wR 7 59 s217.2 v0 (some s217.1)).bind fun s219 =>
  (mka 0 s219 7).bind fun s225 =>
  (wR 7 60 s225.2 v0 (some s225.1)).bind fun s227 =>
  (mka 0 s227 7).bind fun s233 =>
  (wR 7 62 s233.2 v0 (some s233.1)).bind fun s235 =>
  (mka 0 s235 8).bind fun s241 =>
  (wR 7 63 s241.2 v0 (some s241.1)).bind fun s243 =>
  (mka 0 s243 8).bind fun s249 =>
  (wR 7 64 s249.2 v0 (some s249.1)).bind fun s251 =>
  (mka 1 s251 64).bind fun s257 =>
  (wR 7 65 s257.2 v0 (some s257.1)).bind fun s259 =>
  (mka 1 s259 64).bind fun s265 =>
  (wR 7 66 s265.2 v0 (some s265.1)).bind fun s267 =>
  (mka 0 s267 4).bind fun s272 =>
  (wR 7 67 s272.2 v0 (some s272.1)).bind fun s274 =>
  (mka 0 s274 4).bind fun s279 =>
  (wR 7 68 s279.2 v0 (some s279.1)).bind fun s281 =>
  (mka 0 s281 30).bind fun s287 =>
  (wR 7 69 s287.2 v0 (some s287.1)).bind fun s289 =>
  (mka 0 s289 30).bind fun s295 =>
  (wR 7 70 s295.2 v0 (some s295.1)).bind fun s297 =>
  (mka 0 s297 30).bind fun s303 =>
  (wR 7 71 s303.2 v0 (some s303.1)).bind fun s305 =>
  (mka 0 s305 30).bind fun s311 =>
  (wR 7 72 s311.2 v0 (some s311.1)).bind fun s313 =>
  (mka 0 s313 30).bind fun s319 =>
  (wR 7 73 s319.2 v0 (some s319.1)).bind fun s321 =>
  (mka 1 s321 30).bind fun s327 =>
  (wR 7 74 s327.2 v0 (some s327.1)).bind fun s329 =>
  (mka 0 s329 6).bind fun s335 =>
  (wR 7 77 s335.2 v0 (some s335.1)).bind fun s337 =>
  (mka 0 s337 6).bind fun s343 =>
  (wR 7 78 s343.2 v0 (some s343.1)).bind fun s345 =>
  (mka 0 s345 18).bind fun s351 =>
  (wR 7 79 s351.2 v0 (some s351.1)).bind fun s353 =>
  (mka 1 s353 3).bind fun s358 =>
  (wR 7 80 s358.2 v0 (some s358.1)).bind fun s360 =>
  (mka 0 s360 84).bind fun s366 =>
  (wR 7 81 s366.2 v0 (some s366.1)).bind fun s368 =>
  some s368
theorem wfy_m_init {G : ai_G} {d : Nat} {h0 : ai_H} (hO : hOld G h0) (s : yS) (v0 : Nat) : ∀ r, fy_m_init G s v0 = some r → (PyV (hL h0 (v0 + 2))) r (ai_call G (d + 1) 19 [.ref v0] (yH s h0)) := by
  refine tq_meth (P := (PyV (hL h0 (v0 + 2)))) (d := d) (Nat.le_of_ble_eq_true rfl) ?_
  show Tj G d 19 (PyV (hL h0 (v0 + 2))) (fy_m_init G s v0) 0 [some (.ref v0)] [] (yH s h0)
  unfold fy_m_init
  refine tq_aload_n dX8_init_0 rfl ?_
  refine tq_objI dX8_init_1 rfl (Nat.le_of_ble_eq_true rfl) ?_
  refine tq_aload_n dX8_init_4 rfl ?_
  refine tq_sipush (v := 1600) dX8_init_5 (by decide) ?_
  refine ty_newI dX8_init_8 (fun s8 => ?_)
  refine ty_wRr dX8_init_10 rfl rfl rfl (fun s10 => ?_)
  refine tq_aload_n dX8_init_13 rfl ?_
  refine tq_iconst (v := (-1)) dX8_init_14 (by decide) ?_
  refine ty_wI dX8_init_15 rfl rfl rfl (fun s15 => ?_)
  refine tq_aload_n dX8_init_18 rfl ?_
  refine tq_bipush (v := 11) dX8_init_19 (by decide) ?_
  refine ty_newL dX8_init_21 (fun s21 => ?_)
  refine ty_wRr dX8_init_23 rfl rfl rfl (fun s23 => ?_)
  refine tq_aload_n dX8_init_26 rfl ?_
  refine tq_sipush (v := 320) dX8_init_27 (by decide) ?_
  refine ty_newI dX8_init_30 (fun s30 => ?_)
  refine ty_wRr dX8_init_32 rfl rfl rfl (fun s32 => ?_)
  refine tq_aload_n dX8_init_35 rfl ?_
  refine tq_sipush (v := 320) dX8_init_36 (by decide) ?_
  refine ty_newI dX8_init_39 (fun s39 => ?_)
  refine ty_wRr dX8_init_41 rfl rfl rfl (fun s41 => ?_)
  refine tq_aload_n dX8_init_44 rfl ?_
  refine tq_sipush (v := 320) dX8_init_45 (by decide) ?_
  refine ty_newI dX8_init_48 (fun s48 => ?_)
  refine ty_wRr dX8_init_50 rfl rfl rfl (fun s50 => ?_)
  refine tq_aload_n dX8_init_53 rfl ?_
  refine tq_sipush (v := 320) dX8_init_54 (by decide) ?_
  refine ty_newI dX8_init_57 (fun s57 => ?_)
  refine ty_wRr dX8_init_59 rfl rfl rfl (fun s59 => ?_)
  refine tq_aload_n dX8_init_62 rfl ?_
  refine tq_sipush (v := 160) dX8_init_63 (by decide) ?_
  refine ty_newI dX8_init_66 (fun s66 => ?_)
  refine ty_wRr dX8_init_68 rfl rfl rfl (fun s68 => ?_)
  refine tq_aload_n dX8_init_71 rfl ?_
  refine tq_bipush (v := 64) dX8_init_72 (by decide) ?_
  refine ty_newI dX8_init_74 (fun s74 => ?_)
  refine ty_wRr dX8_init_76 rfl rfl rfl (fun s76 => ?_)
  refine tq_aload_n dX8_init_79 rfl ?_
  refine tq_bipush (v := 6) dX8_init_80 (by decide) ?_
  refine ty_newI dX8_init_82 (fun s82 => ?_)
  refine ty_wRr dX8_init_84 rfl rfl rfl (fun s84 => ?_)
  refine tq_aload_n dX8_init_87 rfl ?_
  refine tq_bipush (v := 56) dX8_init_88 (by decide) ?_
  refine ty_newI dX8_init_90 (fun s90 => ?_)
  refine ty_wRr dX8_init_92 rfl rfl rfl (fun s92 => ?_)
  refine tq_aload_n dX8_init_95 rfl ?_
  refine tq_bipush (v := 56) dX8_init_96 (by decide) ?_
  refine ty_newI dX8_init_98 (fun s98 => ?_)
  refine ty_wRr dX8_init_100 rfl rfl rfl (fun s100 => ?_)
  refine tq_aload_n dX8_init_103 rfl ?_
  refine tq_iconst (v := 4) dX8_init_104 (by decide) ?_
  refine ty_newI dX8_init_105 (fun s105 => ?_)
  refine ty_wRr dX8_init_107 rfl rfl rfl (fun s107 => ?_)
  refine tq_aload_n dX8_init_110 rfl ?_
  refine tq_iconst (v := 4) dX8_init_111 (by decide) ?_
  refine ty_newI dX8_init_112 (fun s112 => ?_)
  refine ty_wRr dX8_init_114 rfl rfl rfl (fun s114 => ?_)
  refine tq_aload_n dX8_init_117 rfl ?_
  refine tq_iconst (v := 4) dX8_init_118 (by decide) ?_
  refine ty_newI dX8_init_119 (fun s119 => ?_)
  refine ty_wRr dX8_init_121 rfl rfl rfl (fun s121 => ?_)
  refine tq_aload_n dX8_init_124 rfl ?_
  refine tq_bipush (v := 7) dX8_init_125 (by decide) ?_
  refine ty_newI dX8_init_127 (fun s127 => ?_)
  refine ty_wRr dX8_init_129 rfl rfl rfl (fun s129 => ?_)
  refine tq_aload_n dX8_init_132 rfl ?_
  refine tq_bipush (v := 56) dX8_init_133 (by decide) ?_
  refine ty_newI dX8_init_135 (fun s135 => ?_)
  refine ty_wRr dX8_init_137 rfl rfl rfl (fun s137 => ?_)
  refine tq_aload_n dX8_init_140 rfl ?_
  refine tq_bipush (v := 56) dX8_init_141 (by decide) ?_
  refine ty_newI dX8_init_143 (fun s143 => ?_)
  refine ty_wRr dX8_init_145 rfl rfl rfl (fun s145 => ?_)
  refine tq_aload_n dX8_init_148 rfl ?_
  refine tq_iconst (v := 4) dX8_init_149 (by decide) ?_
  refine ty_newI dX8_init_150 (fun s150 => ?_)
  refine ty_wRr dX8_init_152 rfl rfl rfl (fun s152 => ?_)
  refine tq_aload_n dX8_init_155 rfl ?_
  refine tq_iconst (v := 4) dX8_init_156 (by decide) ?_
  refine ty_newI dX8_init_157 (fun s157 => ?_)
  refine ty_wRr dX8_init_159 rfl rfl rfl (fun s159 => ?_)
  refine tq_aload_n dX8_init_162 rfl ?_
  refine tq_iconst (v := 4) dX8_init_163 (by decide) ?_
  refine ty_newI dX8_init_164 (fun s164 => ?_)
  refine ty_wRr dX8_init_166 rfl rfl rfl (fun s166 => ?_)
  refine tq_aload_n dX8_init_169 rfl ?_
  refine tq_bipush (v := 7) dX8_init_170 (by decide) ?_
  refine ty_newI dX8_init_172 (fun s172 => ?_)
  refine ty_wRr dX8_init_174 rfl rfl rfl (fun s174 => ?_)
  refine tq_aload_n dX8_init_177 rfl ?_
  refine tq_bipush (v := 8) dX8_init_178 (by decide) ?_
  refine ty_wI dX8_init_180 rfl rfl rfl (fun s180 => ?_)
  refine tq_aload_n dX8_init_183 rfl ?_
  refine tq_bipush (v := 6) dX8_init_184 (by decide) ?_
  refine ty_wI dX8_init_186 rfl rfl rfl (fun s186 => ?_)
  refine tq_aload_n dX8_init_189 rfl ?_
  refine tq_bipush (v := 28) dX8_init_190 (by decide) ?_
  refine ty_newI dX8_init_192 (fun s192 => ?_)
  refine ty_wRr dX8_init_194 rfl rfl rfl (fun s194 => ?_)
  refine tq_aload_n dX8_init_197 rfl ?_
  refine tq_bipush (v := 28) dX8_init_198 (by decide) ?_
  refine ty_newI dX8_init_200 (fun s200 => ?_)
  refine ty_wRr dX8_init_202 rfl rfl rfl (fun s202 => ?_)
  refine tq_aload_n dX8_init_205 rfl ?_
  refine tq_sipush (v := 1120) dX8_init_206 (by decide) ?_
  refine ty_newI dX8_init_209 (fun s209 => ?_)
  refine ty_wRr dX8_init_211 rfl rfl rfl (fun s211 => ?_)
  refine tq_aload_n dX8_init_214 rfl ?_
  refine tq_bipush (v := 6) dX8_init_215 (by decide) ?_
  refine ty_newI dX8_init_217 (fun s217 => ?_)
  refine ty_wRr dX8_init_219 rfl rfl rfl (fun s219 => ?_)
  refine tq_aload_n dX8_init_222 rfl ?_
  refine tq_bipush (v := 7) dX8_init_223 (by decide) ?_
  refine ty_newI dX8_init_225 (fun s225 => ?_)
  refine ty_wRr dX8_init_227 rfl rfl rfl (fun s227 => ?_)
  refine tq_aload_n dX8_init_230 rfl ?_
  refine tq_bipush (v := 7) dX8_init_231 (by decide) ?_
  refine ty_newI dX8_init_233 (fun s233 => ?_)
  refine ty_wRr dX8_init_235 rfl rfl rfl (fun s235 => ?_)
  refine tq_aload_n dX8_init_238 rfl ?_
  refine tq_bipush (v := 8) dX8_init_239 (by decide) ?_
  refine ty_newI dX8_init_241 (fun s241 => ?_)
  refine ty_wRr dX8_init_243 rfl rfl rfl (fun s243 => ?_)
  refine tq_aload_n dX8_init_246 rfl ?_
  refine tq_bipush (v := 8) dX8_init_247 (by decide) ?_
  refine ty_newI dX8_init_249 (fun s249 => ?_)
  refine ty_wRr dX8_init_251 rfl rfl rfl (fun s251 => ?_)
  refine tq_aload_n dX8_init_254 rfl ?_
  refine tq_bipush (v := 64) dX8_init_255 (by decide) ?_
  refine ty_newZ dX8_init_257 (fun s257 => ?_)
  refine ty_wRr dX8_init_259 rfl rfl rfl (fun s259 => ?_)
  refine tq_aload_n dX8_init_262 rfl ?_
  refine tq_bipush (v := 64) dX8_init_263 (by decide) ?_
  refine ty_newZ dX8_init_265 (fun s265 => ?_)
  refine ty_wRr dX8_init_267 rfl rfl rfl (fun s267 => ?_)
  refine tq_aload_n dX8_init_270 rfl ?_
  refine tq_iconst (v := 4) dX8_init_271 (by decide) ?_
  refine ty_newI dX8_init_272 (fun s272 => ?_)
  refine ty_wRr dX8_init_274 rfl rfl rfl (fun s274 => ?_)
  refine tq_aload_n dX8_init_277 rfl ?_
  refine tq_iconst (v := 4) dX8_init_278 (by decide) ?_
  refine ty_newI dX8_init_279 (fun s279 => ?_)
  refine ty_wRr dX8_init_281 rfl rfl rfl (fun s281 => ?_)
  refine tq_aload_n dX8_init_284 rfl ?_
  refine tq_bipush (v := 30) dX8_init_285 (by decide) ?_
  refine ty_newI dX8_init_287 (fun s287 => ?_)
  refine ty_wRr dX8_init_289 rfl rfl rfl (fun s289 => ?_)
  refine tq_aload_n dX8_init_292 rfl ?_
  refine tq_bipush (v := 30) dX8_init_293 (by decide) ?_
  refine ty_newI dX8_init_295 (fun s295 => ?_)
  refine ty_wRr dX8_init_297 rfl rfl rfl (fun s297 => ?_)
  refine tq_aload_n dX8_init_300 rfl ?_
  refine tq_bipush (v := 30) dX8_init_301 (by decide) ?_
  refine ty_newI dX8_init_303 (fun s303 => ?_)
  refine ty_wRr dX8_init_305 rfl rfl rfl (fun s305 => ?_)
  refine tq_aload_n dX8_init_308 rfl ?_
  refine tq_bipush (v := 30) dX8_init_309 (by decide) ?_
  refine ty_newI dX8_init_311 (fun s311 => ?_)
  refine ty_wRr dX8_init_313 rfl rfl rfl (fun s313 => ?_)
  refine tq_aload_n dX8_init_316 rfl ?_
  refine tq_bipush (v := 30) dX8_init_317 (by decide) ?_
  refine ty_newI dX8_init_319 (fun s319 => ?_)
  refine ty_wRr dX8_init_321 rfl rfl rfl (fun s321 => ?_)
  refine tq_aload_n dX8_init_324 rfl ?_
  refine tq_bipush (v := 30) dX8_init_325 (by decide) ?_
  refine ty_newZ dX8_init_327 (fun s327 => ?_)
  refine ty_wRr dX8_init_329 rfl rfl rfl (fun s329 => ?_)
  refine tq_aload_n dX8_init_332 rfl ?_
  refine tq_bipush (v := 6) dX8_init_333 (by decide) ?_
  refine ty_newI dX8_init_335 (fun s335 => ?_)
  refine ty_wRr dX8_init_337 rfl rfl rfl (fun s337 => ?_)
  refine tq_aload_n dX8_init_340 rfl ?_
  refine tq_bipush (v := 6) dX8_init_341 (by decide) ?_
  refine ty_newI dX8_init_343 (fun s343 => ?_)
  refine ty_wRr dX8_init_345 rfl rfl rfl (fun s345 => ?_)
  refine tq_aload_n dX8_init_348 rfl ?_
  refine tq_bipush (v := 18) dX8_init_349 (by decide) ?_
  refine ty_newI dX8_init_351 (fun s351 => ?_)
  refine ty_wRr dX8_init_353 rfl rfl rfl (fun s353 => ?_)
  refine tq_aload_n dX8_init_356 rfl ?_
  refine tq_iconst (v := 3) dX8_init_357 (by decide) ?_
  refine ty_newZ dX8_init_358 (fun s358 => ?_)
  refine ty_wRr dX8_init_360 rfl rfl rfl (fun s360 => ?_)
  refine tq_aload_n dX8_init_363 rfl ?_
  refine tq_bipush (v := 84) dX8_init_364 (by decide) ?_
  refine ty_newI dX8_init_366 (fun s366 => ?_)
  refine ty_wRr dX8_init_368 rfl rfl rfl (fun s368 => ?_)
  exact tq_return dX8_init_371 rfl rfl
section P4B
variable {G : ai_G} {O : Nat → Nat} {X Q B : Nat} {c u u' y : yS} {cc dd a : Nat}
theorem rl_nL (h : rlY X Q B c u) : rlY X Q B (nL c) (nL u) := by
  obtain ⟨h1, ⟨h2, h3, h4⟩, h5⟩ := h
  have e : yn (nL u) = X + yn (nL c) := by
    show yn u + 1 = X + (yn c + 1)
    omega
  refine ⟨e, ⟨?_, h3, ?_⟩, fun k hk => ?_⟩
  · show yu u + 11 = B + (yu c + 11)
    omega
  · show (if Q = yn u then none else yt u Q) = none
    split
    · rfl
    · exact h4
  · have hk' : k < yn c + 1 := hk
    by_cases q : k = yn c
    · have e1 : yt (nL u) (X + k) = none := if_pos (by omega)
      have e2 : yt (nL c) k = none := if_pos q
      rw [e1, e2]
      exact ⟨rfl, fun t ht => (by cases ht), fun p hp => (by cases hp)⟩
    · have e1 : yt (nL u) (X + k) = yt u (X + k) := if_neg (by omega)
      have e2 : yt (nL c) k = yt c k := if_neg q
      rw [e1, e2]
      exact h5 k (by omega)
theorem st_mkL (h : rlY X Q B c u) (hk : yn c = 2) : ∃ u', mkL (X + 0 + 2) u 11 = some (X + 2, u') ∧ rlY X Q B (nL c) u' := by
  refine ⟨nL u, ?_, rl_nL h⟩
  unfold mkL
  rw [if_pos ⟨by rw [h.1, hk], rfl⟩]
theorem fw_mkL {n : Int32} (f : yF O [] cc dd y u) (e : mkL a u n = some (a, u')) : yF O [] (cc + 1) (dd + 11) y u' := by
  unfold mkL at e
  split at e
  · cases e
    obtain ⟨⟨a1, a2, a3⟩, a4, a5, a6⟩ := f
    refine ⟨⟨?_, ?_, ?_⟩, fun q hq => ?_, a5, a6⟩
    · show yn y ≤ yn u + 1
      omega
    · show yn u + 1 ≤ yn y + (cc + 1)
      omega
    · show yu u + 11 ≤ yu y + (dd + 11)
      omega
    · have : yt (nL u) q = yt u q := if_neg (by omega)
      rw [this]
      exact a4 q hq
  · cases e
theorem jw_mka {kd : Nat} {z : Int} (e : mka kd u (iI z) = some (a, u')) (h1 : 0 ≤ z) (h2 : z ≤ 65536) : yj u' = yj u := by
  rw [mka_i h1 h2] at e
  cases e
  rfl
theorem jw_mkL {n : Int32} (e : mkL a u n = some (a, u')) : yj u' = yj u := by
  unfold mkL at e
  split at e
  · cases e; rfl
  · cases e
theorem jw_wR {c9 j : Nat} {v : Option Nat} (e : wR c9 j u a v = some u') : yj u' = yj u := by
  unfold wR at e
  split at e
  · cases e; rfl
  · cases e
theorem jw_wI {c9 j : Nat} {v : Int32} (e : wI c9 j u a v = some u') : yj u' = yj u := by
  unfold wI at e
  split at e
  · cases e; rfl
  · cases e
def pr82 (c : yS) : Prop := ∀ k, 82 ≤ k → yr c 0 k = none
theorem pr_sR {j : Nat} {v : Option Nat} (h : pr82 c) (hj : j < 82) : pr82 (sR c 0 j v) := by
  intro k hk
  rw [sR_get, if_neg (by omega)]
  exact h k hk
theorem pr_nA {kd n : Nat} (h : pr82 c) : pr82 (nA c kd n) := h
theorem pr_nL (h : pr82 c) : pr82 (nL c) := h
theorem pr_sF {j : Nat} {v : Int32} (h : pr82 c) : pr82 (sF c 0 j v) := h
/-- the model at its start -/
def s00 : mS := (fun k => if k = 3 then -1 else if k = 46 then 8 else if k = 47 then 6 else 0, 0, fun _ _ => 0, fun _ => 0)
def mdC (c : yS) : Prop := (yn c = 45 ∧ yu c = 5110) ∧ yt c 0 = some (.inr 7) ∧ yt c 2 = none ∧ (∀ j, j < 45 → 1 ≤ j → ¬ j = 2 → yt c j = some (.inl (m_kn j, m_ln j))) ∧ (∀ k, k < 82 → yf c 0 k = s00.1 k ∧ yr c 0 k = if m_off k = 0 then none else some (m_off k)) ∧ (∀ k, 82 ≤ k → yf c 0 k = 0) ∧ (∀ j, j < 45 → 1 ≤ j → ¬ j = 2 → ya c j = fun _ => 0) ∧ pr82 c
theorem c_minit0 (hX : X = yn y) (r0 : rlY X Q B (nO yZ 7) u) (f0 : yF O [] 1 82 y u) (j0 : yj u = yj u) : ∃ c u', rlY X Q B c u' ∧ mdC c ∧ yF O [] 45 5110 y u' ∧ yj u' = yj u ∧ fy_m_init G u (X + 0) = some u' := by
  have p0 : pr82 (nO yZ 7) := fun k _ => rfl
  obtain ⟨u1, e1, r1⟩ := st_mka r0 0 (z := 1600) (k := 1) (by omega) (by omega) rfl
  have f1 := fw_mka f0 e1 (by omega) (by omega)
  have j1 := (jw_mka e1 (by omega) (by omega)).trans j0
  have p1 := pr_nA (kd := 0) (n := 1600) p0
  obtain ⟨u2, e2, r2⟩ := st_wR r1 (cc := 7) 0 (a := 0) (b := 1) rfl (by decide) (by decide)
  have f2 := fw_wR f1 e2 (by omega)
  have j2 := (jw_wR e2).trans j1
  have p2 := pr_sR (j := 0) (v := some 1) p1 (by decide)
  obtain ⟨u3, e3, r3⟩ := st_wI r2 (cc := 7) 3 (a := 0) (-1) rfl (by decide)
  have f3 := fw_wI f2 e3 (by omega)
  have j3 := (jw_wI e3).trans j2
  have p3 := pr_sF (j := 3) (v := (-1)) p2
  obtain ⟨u4, e4, r4⟩ := st_mkL r3 rfl
  have f4 := fw_mkL f3 e4
  have j4 := (jw_mkL e4).trans j3
  have p4 := pr_nL p3
  obtain ⟨u5, e5, r5⟩ := st_wR r4 (cc := 7) 10 (a := 0) (b := 2) rfl (by decide) (by decide)
  have f5 := fw_wR f4 e5 (by omega)
  have j5 := (jw_wR e5).trans j4
  have p5 := pr_sR (j := 10) (v := some 2) p4 (by decide)
  obtain ⟨u6, e6, r6⟩ := st_mka r5 0 (z := 320) (k := 3) (by omega) (by omega) rfl
  have f6 := fw_mka f5 e6 (by omega) (by omega)
  have j6 := (jw_mka e6 (by omega) (by omega)).trans j5
  have p6 := pr_nA (kd := 0) (n := 320) p5
  obtain ⟨u7, e7, r7⟩ := st_wR r6 (cc := 7) 11 (a := 0) (b := 3) rfl (by decide) (by decide)
  have f7 := fw_wR f6 e7 (by omega)
  have j7 := (jw_wR e7).trans j6
  have p7 := pr_sR (j := 11) (v := some 3) p6 (by decide)
  obtain ⟨u8, e8, r8⟩ := st_mka r7 0 (z := 320) (k := 4) (by omega) (by omega) rfl
  have f8 := fw_mka f7 e8 (by omega) (by omega)
  have j8 := (jw_mka e8 (by omega) (by omega)).trans j7
  have p8 := pr_nA (kd := 0) (n := 320) p7
  obtain ⟨u9, e9, r9⟩ := st_wR r8 (cc := 7) 12 (a := 0) (b := 4) rfl (by decide) (by decide)
  have f9 := fw_wR f8 e9 (by omega)
  have j9 := (jw_wR e9).trans j8
  have p9 := pr_sR (j := 12) (v := some 4) p8 (by decide)
  obtain ⟨u10, e10, r10⟩ := st_mka r9 0 (z := 320) (k := 5) (by omega) (by omega) rfl
  have f10 := fw_mka f9 e10 (by omega) (by omega)
  have j10 := (jw_mka e10 (by omega) (by omega)).trans j9
  have p10 := pr_nA (kd := 0) (n := 320) p9
  obtain ⟨u11, e11, r11⟩ := st_wR r10 (cc := 7) 13 (a := 0) (b := 5) rfl (by decide) (by decide)
  have f11 := fw_wR f10 e11 (by omega)
  have j11 := (jw_wR e11).trans j10
  have p11 := pr_sR (j := 13) (v := some 5) p10 (by decide)
  obtain ⟨u12, e12, r12⟩ := st_mka r11 0 (z := 320) (k := 6) (by omega) (by omega) rfl
  have f12 := fw_mka f11 e12 (by omega) (by omega)
  have j12 := (jw_mka e12 (by omega) (by omega)).trans j11
  have p12 := pr_nA (kd := 0) (n := 320) p11
  obtain ⟨u13, e13, r13⟩ := st_wR r12 (cc := 7) 14 (a := 0) (b := 6) rfl (by decide) (by decide)
  have f13 := fw_wR f12 e13 (by omega)
  have j13 := (jw_wR e13).trans j12
  have p13 := pr_sR (j := 14) (v := some 6) p12 (by decide)
  obtain ⟨u14, e14, r14⟩ := st_mka r13 0 (z := 160) (k := 7) (by omega) (by omega) rfl
  have f14 := fw_mka f13 e14 (by omega) (by omega)
  have j14 := (jw_mka e14 (by omega) (by omega)).trans j13
  have p14 := pr_nA (kd := 0) (n := 160) p13
  obtain ⟨u15, e15, r15⟩ := st_wR r14 (cc := 7) 15 (a := 0) (b := 7) rfl (by decide) (by decide)
  have f15 := fw_wR f14 e15 (by omega)
  have j15 := (jw_wR e15).trans j14
  have p15 := pr_sR (j := 15) (v := some 7) p14 (by decide)
  obtain ⟨u16, e16, r16⟩ := st_mka r15 0 (z := 64) (k := 8) (by omega) (by omega) rfl
  have f16 := fw_mka f15 e16 (by omega) (by omega)
  have j16 := (jw_mka e16 (by omega) (by omega)).trans j15
  have p16 := pr_nA (kd := 0) (n := 64) p15
  obtain ⟨u17, e17, r17⟩ := st_wR r16 (cc := 7) 16 (a := 0) (b := 8) rfl (by decide) (by decide)
  have f17 := fw_wR f16 e17 (by omega)
  have j17 := (jw_wR e17).trans j16
  have p17 := pr_sR (j := 16) (v := some 8) p16 (by decide)
  obtain ⟨u18, e18, r18⟩ := st_mka r17 0 (z := 6) (k := 9) (by omega) (by omega) rfl
  have f18 := fw_mka f17 e18 (by omega) (by omega)
  have j18 := (jw_mka e18 (by omega) (by omega)).trans j17
  have p18 := pr_nA (kd := 0) (n := 6) p17
  obtain ⟨u19, e19, r19⟩ := st_wR r18 (cc := 7) 25 (a := 0) (b := 9) rfl (by decide) (by decide)
  have f19 := fw_wR f18 e19 (by omega)
  have j19 := (jw_wR e19).trans j18
  have p19 := pr_sR (j := 25) (v := some 9) p18 (by decide)
  obtain ⟨u20, e20, r20⟩ := st_mka r19 0 (z := 56) (k := 10) (by omega) (by omega) rfl
  have f20 := fw_mka f19 e20 (by omega) (by omega)
  have j20 := (jw_mka e20 (by omega) (by omega)).trans j19
  have p20 := pr_nA (kd := 0) (n := 56) p19
  obtain ⟨u21, e21, r21⟩ := st_wR r20 (cc := 7) 26 (a := 0) (b := 10) rfl (by decide) (by decide)
  have f21 := fw_wR f20 e21 (by omega)
  have j21 := (jw_wR e21).trans j20
  have p21 := pr_sR (j := 26) (v := some 10) p20 (by decide)
  obtain ⟨u22, e22, r22⟩ := st_mka r21 0 (z := 56) (k := 11) (by omega) (by omega) rfl
  have f22 := fw_mka f21 e22 (by omega) (by omega)
  have j22 := (jw_mka e22 (by omega) (by omega)).trans j21
  have p22 := pr_nA (kd := 0) (n := 56) p21
  obtain ⟨u23, e23, r23⟩ := st_wR r22 (cc := 7) 27 (a := 0) (b := 11) rfl (by decide) (by decide)
  have f23 := fw_wR f22 e23 (by omega)
  have j23 := (jw_wR e23).trans j22
  have p23 := pr_sR (j := 27) (v := some 11) p22 (by decide)
  obtain ⟨u24, e24, r24⟩ := st_mka r23 0 (z := 4) (k := 12) (by omega) (by omega) rfl
  have f24 := fw_mka f23 e24 (by omega) (by omega)
  have j24 := (jw_mka e24 (by omega) (by omega)).trans j23
  have p24 := pr_nA (kd := 0) (n := 4) p23
  obtain ⟨u25, e25, r25⟩ := st_wR r24 (cc := 7) 28 (a := 0) (b := 12) rfl (by decide) (by decide)
  have f25 := fw_wR f24 e25 (by omega)
  have j25 := (jw_wR e25).trans j24
  have p25 := pr_sR (j := 28) (v := some 12) p24 (by decide)
  obtain ⟨u26, e26, r26⟩ := st_mka r25 0 (z := 4) (k := 13) (by omega) (by omega) rfl
  have f26 := fw_mka f25 e26 (by omega) (by omega)
  have j26 := (jw_mka e26 (by omega) (by omega)).trans j25
  have p26 := pr_nA (kd := 0) (n := 4) p25
  obtain ⟨u27, e27, r27⟩ := st_wR r26 (cc := 7) 29 (a := 0) (b := 13) rfl (by decide) (by decide)
  have f27 := fw_wR f26 e27 (by omega)
  have j27 := (jw_wR e27).trans j26
  have p27 := pr_sR (j := 29) (v := some 13) p26 (by decide)
  obtain ⟨u28, e28, r28⟩ := st_mka r27 0 (z := 4) (k := 14) (by omega) (by omega) rfl
  have f28 := fw_mka f27 e28 (by omega) (by omega)
  have j28 := (jw_mka e28 (by omega) (by omega)).trans j27
  have p28 := pr_nA (kd := 0) (n := 4) p27
  obtain ⟨u29, e29, r29⟩ := st_wR r28 (cc := 7) 30 (a := 0) (b := 14) rfl (by decide) (by decide)
  have f29 := fw_wR f28 e29 (by omega)
  have j29 := (jw_wR e29).trans j28
  have p29 := pr_sR (j := 30) (v := some 14) p28 (by decide)
  obtain ⟨u30, e30, r30⟩ := st_mka r29 0 (z := 7) (k := 15) (by omega) (by omega) rfl
  have f30 := fw_mka f29 e30 (by omega) (by omega)
  have j30 := (jw_mka e30 (by omega) (by omega)).trans j29
  have p30 := pr_nA (kd := 0) (n := 7) p29
  obtain ⟨u31, e31, r31⟩ := st_wR r30 (cc := 7) 31 (a := 0) (b := 15) rfl (by decide) (by decide)
  have f31 := fw_wR f30 e31 (by omega)
  have j31 := (jw_wR e31).trans j30
  have p31 := pr_sR (j := 31) (v := some 15) p30 (by decide)
  obtain ⟨u32, e32, r32⟩ := st_mka r31 0 (z := 56) (k := 16) (by omega) (by omega) rfl
  have f32 := fw_mka f31 e32 (by omega) (by omega)
  have j32 := (jw_mka e32 (by omega) (by omega)).trans j31
  have p32 := pr_nA (kd := 0) (n := 56) p31
  obtain ⟨u33, e33, r33⟩ := st_wR r32 (cc := 7) 32 (a := 0) (b := 16) rfl (by decide) (by decide)
  have f33 := fw_wR f32 e33 (by omega)
  have j33 := (jw_wR e33).trans j32
  have p33 := pr_sR (j := 32) (v := some 16) p32 (by decide)
  obtain ⟨u34, e34, r34⟩ := st_mka r33 0 (z := 56) (k := 17) (by omega) (by omega) rfl
  have f34 := fw_mka f33 e34 (by omega) (by omega)
  have j34 := (jw_mka e34 (by omega) (by omega)).trans j33
  have p34 := pr_nA (kd := 0) (n := 56) p33
  obtain ⟨u35, e35, r35⟩ := st_wR r34 (cc := 7) 33 (a := 0) (b := 17) rfl (by decide) (by decide)
  have f35 := fw_wR f34 e35 (by omega)
  have j35 := (jw_wR e35).trans j34
  have p35 := pr_sR (j := 33) (v := some 17) p34 (by decide)
  obtain ⟨u36, e36, r36⟩ := st_mka r35 0 (z := 4) (k := 18) (by omega) (by omega) rfl
  have f36 := fw_mka f35 e36 (by omega) (by omega)
  have j36 := (jw_mka e36 (by omega) (by omega)).trans j35
  have p36 := pr_nA (kd := 0) (n := 4) p35
  obtain ⟨u37, e37, r37⟩ := st_wR r36 (cc := 7) 34 (a := 0) (b := 18) rfl (by decide) (by decide)
  have f37 := fw_wR f36 e37 (by omega)
  have j37 := (jw_wR e37).trans j36
  have p37 := pr_sR (j := 34) (v := some 18) p36 (by decide)
  obtain ⟨u38, e38, r38⟩ := st_mka r37 0 (z := 4) (k := 19) (by omega) (by omega) rfl
  have f38 := fw_mka f37 e38 (by omega) (by omega)
  have j38 := (jw_mka e38 (by omega) (by omega)).trans j37
  have p38 := pr_nA (kd := 0) (n := 4) p37
  obtain ⟨u39, e39, r39⟩ := st_wR r38 (cc := 7) 35 (a := 0) (b := 19) rfl (by decide) (by decide)
  have f39 := fw_wR f38 e39 (by omega)
  have j39 := (jw_wR e39).trans j38
  have p39 := pr_sR (j := 35) (v := some 19) p38 (by decide)
  obtain ⟨u40, e40, r40⟩ := st_mka r39 0 (z := 4) (k := 20) (by omega) (by omega) rfl
  have f40 := fw_mka f39 e40 (by omega) (by omega)
  have j40 := (jw_mka e40 (by omega) (by omega)).trans j39
  have p40 := pr_nA (kd := 0) (n := 4) p39
  obtain ⟨u41, e41, r41⟩ := st_wR r40 (cc := 7) 36 (a := 0) (b := 20) rfl (by decide) (by decide)
  have f41 := fw_wR f40 e41 (by omega)
  have j41 := (jw_wR e41).trans j40
  have p41 := pr_sR (j := 36) (v := some 20) p40 (by decide)
  obtain ⟨u42, e42, r42⟩ := st_mka r41 0 (z := 7) (k := 21) (by omega) (by omega) rfl
  have f42 := fw_mka f41 e42 (by omega) (by omega)
  have j42 := (jw_mka e42 (by omega) (by omega)).trans j41
  have p42 := pr_nA (kd := 0) (n := 7) p41
  obtain ⟨u43, e43, r43⟩ := st_wR r42 (cc := 7) 37 (a := 0) (b := 21) rfl (by decide) (by decide)
  have f43 := fw_wR f42 e43 (by omega)
  have j43 := (jw_wR e43).trans j42
  have p43 := pr_sR (j := 37) (v := some 21) p42 (by decide)
  obtain ⟨u44, e44, r44⟩ := st_wI r43 (cc := 7) 46 (a := 0) 8 rfl (by decide)
  have f44 := fw_wI f43 e44 (by omega)
  have j44 := (jw_wI e44).trans j43
  have p44 := pr_sF (j := 46) (v := 8) p43
  obtain ⟨u45, e45, r45⟩ := st_wI r44 (cc := 7) 47 (a := 0) 6 rfl (by decide)
  have f45 := fw_wI f44 e45 (by omega)
  have j45 := (jw_wI e45).trans j44
  have p45 := pr_sF (j := 47) (v := 6) p44
  obtain ⟨u46, e46, r46⟩ := st_mka r45 0 (z := 28) (k := 22) (by omega) (by omega) rfl
  have f46 := fw_mka f45 e46 (by omega) (by omega)
  have j46 := (jw_mka e46 (by omega) (by omega)).trans j45
  have p46 := pr_nA (kd := 0) (n := 28) p45
  obtain ⟨u47, e47, r47⟩ := st_wR r46 (cc := 7) 54 (a := 0) (b := 22) rfl (by decide) (by decide)
  have f47 := fw_wR f46 e47 (by omega)
  have j47 := (jw_wR e47).trans j46
  have p47 := pr_sR (j := 54) (v := some 22) p46 (by decide)
  obtain ⟨u48, e48, r48⟩ := st_mka r47 0 (z := 28) (k := 23) (by omega) (by omega) rfl
  have f48 := fw_mka f47 e48 (by omega) (by omega)
  have j48 := (jw_mka e48 (by omega) (by omega)).trans j47
  have p48 := pr_nA (kd := 0) (n := 28) p47
  obtain ⟨u49, e49, r49⟩ := st_wR r48 (cc := 7) 55 (a := 0) (b := 23) rfl (by decide) (by decide)
  have f49 := fw_wR f48 e49 (by omega)
  have j49 := (jw_wR e49).trans j48
  have p49 := pr_sR (j := 55) (v := some 23) p48 (by decide)
  obtain ⟨u50, e50, r50⟩ := st_mka r49 0 (z := 1120) (k := 24) (by omega) (by omega) rfl
  have f50 := fw_mka f49 e50 (by omega) (by omega)
  have j50 := (jw_mka e50 (by omega) (by omega)).trans j49
  have p50 := pr_nA (kd := 0) (n := 1120) p49
  obtain ⟨u51, e51, r51⟩ := st_wR r50 (cc := 7) 56 (a := 0) (b := 24) rfl (by decide) (by decide)
  have f51 := fw_wR f50 e51 (by omega)
  have j51 := (jw_wR e51).trans j50
  have p51 := pr_sR (j := 56) (v := some 24) p50 (by decide)
  obtain ⟨u52, e52, r52⟩ := st_mka r51 0 (z := 6) (k := 25) (by omega) (by omega) rfl
  have f52 := fw_mka f51 e52 (by omega) (by omega)
  have j52 := (jw_mka e52 (by omega) (by omega)).trans j51
  have p52 := pr_nA (kd := 0) (n := 6) p51
  obtain ⟨u53, e53, r53⟩ := st_wR r52 (cc := 7) 59 (a := 0) (b := 25) rfl (by decide) (by decide)
  have f53 := fw_wR f52 e53 (by omega)
  have j53 := (jw_wR e53).trans j52
  have p53 := pr_sR (j := 59) (v := some 25) p52 (by decide)
  obtain ⟨u54, e54, r54⟩ := st_mka r53 0 (z := 7) (k := 26) (by omega) (by omega) rfl
  have f54 := fw_mka f53 e54 (by omega) (by omega)
  have j54 := (jw_mka e54 (by omega) (by omega)).trans j53
  have p54 := pr_nA (kd := 0) (n := 7) p53
  obtain ⟨u55, e55, r55⟩ := st_wR r54 (cc := 7) 60 (a := 0) (b := 26) rfl (by decide) (by decide)
  have f55 := fw_wR f54 e55 (by omega)
  have j55 := (jw_wR e55).trans j54
  have p55 := pr_sR (j := 60) (v := some 26) p54 (by decide)
  obtain ⟨u56, e56, r56⟩ := st_mka r55 0 (z := 7) (k := 27) (by omega) (by omega) rfl
  have f56 := fw_mka f55 e56 (by omega) (by omega)
  have j56 := (jw_mka e56 (by omega) (by omega)).trans j55
  have p56 := pr_nA (kd := 0) (n := 7) p55
  obtain ⟨u57, e57, r57⟩ := st_wR r56 (cc := 7) 62 (a := 0) (b := 27) rfl (by decide) (by decide)
  have f57 := fw_wR f56 e57 (by omega)
  have j57 := (jw_wR e57).trans j56
  have p57 := pr_sR (j := 62) (v := some 27) p56 (by decide)
  obtain ⟨u58, e58, r58⟩ := st_mka r57 0 (z := 8) (k := 28) (by omega) (by omega) rfl
  have f58 := fw_mka f57 e58 (by omega) (by omega)
  have j58 := (jw_mka e58 (by omega) (by omega)).trans j57
  have p58 := pr_nA (kd := 0) (n := 8) p57
  obtain ⟨u59, e59, r59⟩ := st_wR r58 (cc := 7) 63 (a := 0) (b := 28) rfl (by decide) (by decide)
  have f59 := fw_wR f58 e59 (by omega)
  have j59 := (jw_wR e59).trans j58
  have p59 := pr_sR (j := 63) (v := some 28) p58 (by decide)
  obtain ⟨u60, e60, r60⟩ := st_mka r59 0 (z := 8) (k := 29) (by omega) (by omega) rfl
  have f60 := fw_mka f59 e60 (by omega) (by omega)
  have j60 := (jw_mka e60 (by omega) (by omega)).trans j59
  have p60 := pr_nA (kd := 0) (n := 8) p59
  obtain ⟨u61, e61, r61⟩ := st_wR r60 (cc := 7) 64 (a := 0) (b := 29) rfl (by decide) (by decide)
  have f61 := fw_wR f60 e61 (by omega)
  have j61 := (jw_wR e61).trans j60
  have p61 := pr_sR (j := 64) (v := some 29) p60 (by decide)
  obtain ⟨u62, e62, r62⟩ := st_mka r61 1 (z := 64) (k := 30) (by omega) (by omega) rfl
  have f62 := fw_mka f61 e62 (by omega) (by omega)
  have j62 := (jw_mka e62 (by omega) (by omega)).trans j61
  have p62 := pr_nA (kd := 1) (n := 64) p61
  obtain ⟨u63, e63, r63⟩ := st_wR r62 (cc := 7) 65 (a := 0) (b := 30) rfl (by decide) (by decide)
  have f63 := fw_wR f62 e63 (by omega)
  have j63 := (jw_wR e63).trans j62
  have p63 := pr_sR (j := 65) (v := some 30) p62 (by decide)
  obtain ⟨u64, e64, r64⟩ := st_mka r63 1 (z := 64) (k := 31) (by omega) (by omega) rfl
  have f64 := fw_mka f63 e64 (by omega) (by omega)
  have j64 := (jw_mka e64 (by omega) (by omega)).trans j63
  have p64 := pr_nA (kd := 1) (n := 64) p63
  obtain ⟨u65, e65, r65⟩ := st_wR r64 (cc := 7) 66 (a := 0) (b := 31) rfl (by decide) (by decide)
  have f65 := fw_wR f64 e65 (by omega)
  have j65 := (jw_wR e65).trans j64
  have p65 := pr_sR (j := 66) (v := some 31) p64 (by decide)
  obtain ⟨u66, e66, r66⟩ := st_mka r65 0 (z := 4) (k := 32) (by omega) (by omega) rfl
  have f66 := fw_mka f65 e66 (by omega) (by omega)
  have j66 := (jw_mka e66 (by omega) (by omega)).trans j65
  have p66 := pr_nA (kd := 0) (n := 4) p65
  obtain ⟨u67, e67, r67⟩ := st_wR r66 (cc := 7) 67 (a := 0) (b := 32) rfl (by decide) (by decide)
  have f67 := fw_wR f66 e67 (by omega)
  have j67 := (jw_wR e67).trans j66
  have p67 := pr_sR (j := 67) (v := some 32) p66 (by decide)
  obtain ⟨u68, e68, r68⟩ := st_mka r67 0 (z := 4) (k := 33) (by omega) (by omega) rfl
  have f68 := fw_mka f67 e68 (by omega) (by omega)
  have j68 := (jw_mka e68 (by omega) (by omega)).trans j67
  have p68 := pr_nA (kd := 0) (n := 4) p67
  obtain ⟨u69, e69, r69⟩ := st_wR r68 (cc := 7) 68 (a := 0) (b := 33) rfl (by decide) (by decide)
  have f69 := fw_wR f68 e69 (by omega)
  have j69 := (jw_wR e69).trans j68
  have p69 := pr_sR (j := 68) (v := some 33) p68 (by decide)
  obtain ⟨u70, e70, r70⟩ := st_mka r69 0 (z := 30) (k := 34) (by omega) (by omega) rfl
  have f70 := fw_mka f69 e70 (by omega) (by omega)
  have j70 := (jw_mka e70 (by omega) (by omega)).trans j69
  have p70 := pr_nA (kd := 0) (n := 30) p69
  obtain ⟨u71, e71, r71⟩ := st_wR r70 (cc := 7) 69 (a := 0) (b := 34) rfl (by decide) (by decide)
  have f71 := fw_wR f70 e71 (by omega)
  have j71 := (jw_wR e71).trans j70
  have p71 := pr_sR (j := 69) (v := some 34) p70 (by decide)
  obtain ⟨u72, e72, r72⟩ := st_mka r71 0 (z := 30) (k := 35) (by omega) (by omega) rfl
  have f72 := fw_mka f71 e72 (by omega) (by omega)
  have j72 := (jw_mka e72 (by omega) (by omega)).trans j71
  have p72 := pr_nA (kd := 0) (n := 30) p71
  obtain ⟨u73, e73, r73⟩ := st_wR r72 (cc := 7) 70 (a := 0) (b := 35) rfl (by decide) (by decide)
  have f73 := fw_wR f72 e73 (by omega)
  have j73 := (jw_wR e73).trans j72
  have p73 := pr_sR (j := 70) (v := some 35) p72 (by decide)
  obtain ⟨u74, e74, r74⟩ := st_mka r73 0 (z := 30) (k := 36) (by omega) (by omega) rfl
  have f74 := fw_mka f73 e74 (by omega) (by omega)
  have j74 := (jw_mka e74 (by omega) (by omega)).trans j73
  have p74 := pr_nA (kd := 0) (n := 30) p73
  obtain ⟨u75, e75, r75⟩ := st_wR r74 (cc := 7) 71 (a := 0) (b := 36) rfl (by decide) (by decide)
  have f75 := fw_wR f74 e75 (by omega)
  have j75 := (jw_wR e75).trans j74
  have p75 := pr_sR (j := 71) (v := some 36) p74 (by decide)
  obtain ⟨u76, e76, r76⟩ := st_mka r75 0 (z := 30) (k := 37) (by omega) (by omega) rfl
  have f76 := fw_mka f75 e76 (by omega) (by omega)
  have j76 := (jw_mka e76 (by omega) (by omega)).trans j75
  have p76 := pr_nA (kd := 0) (n := 30) p75
  obtain ⟨u77, e77, r77⟩ := st_wR r76 (cc := 7) 72 (a := 0) (b := 37) rfl (by decide) (by decide)
  have f77 := fw_wR f76 e77 (by omega)
  have j77 := (jw_wR e77).trans j76
  have p77 := pr_sR (j := 72) (v := some 37) p76 (by decide)
  obtain ⟨u78, e78, r78⟩ := st_mka r77 0 (z := 30) (k := 38) (by omega) (by omega) rfl
  have f78 := fw_mka f77 e78 (by omega) (by omega)
  have j78 := (jw_mka e78 (by omega) (by omega)).trans j77
  have p78 := pr_nA (kd := 0) (n := 30) p77
  obtain ⟨u79, e79, r79⟩ := st_wR r78 (cc := 7) 73 (a := 0) (b := 38) rfl (by decide) (by decide)
  have f79 := fw_wR f78 e79 (by omega)
  have j79 := (jw_wR e79).trans j78
  have p79 := pr_sR (j := 73) (v := some 38) p78 (by decide)
  obtain ⟨u80, e80, r80⟩ := st_mka r79 1 (z := 30) (k := 39) (by omega) (by omega) rfl
  have f80 := fw_mka f79 e80 (by omega) (by omega)
  have j80 := (jw_mka e80 (by omega) (by omega)).trans j79
  have p80 := pr_nA (kd := 1) (n := 30) p79
  obtain ⟨u81, e81, r81⟩ := st_wR r80 (cc := 7) 74 (a := 0) (b := 39) rfl (by decide) (by decide)
  have f81 := fw_wR f80 e81 (by omega)
  have j81 := (jw_wR e81).trans j80
  have p81 := pr_sR (j := 74) (v := some 39) p80 (by decide)
  obtain ⟨u82, e82, r82⟩ := st_mka r81 0 (z := 6) (k := 40) (by omega) (by omega) rfl
  have f82 := fw_mka f81 e82 (by omega) (by omega)
  have j82 := (jw_mka e82 (by omega) (by omega)).trans j81
  have p82 := pr_nA (kd := 0) (n := 6) p81
  obtain ⟨u83, e83, r83⟩ := st_wR r82 (cc := 7) 77 (a := 0) (b := 40) rfl (by decide) (by decide)
  have f83 := fw_wR f82 e83 (by omega)
  have j83 := (jw_wR e83).trans j82
  have p83 := pr_sR (j := 77) (v := some 40) p82 (by decide)
  obtain ⟨u84, e84, r84⟩ := st_mka r83 0 (z := 6) (k := 41) (by omega) (by omega) rfl
  have f84 := fw_mka f83 e84 (by omega) (by omega)
  have j84 := (jw_mka e84 (by omega) (by omega)).trans j83
  have p84 := pr_nA (kd := 0) (n := 6) p83
  obtain ⟨u85, e85, r85⟩ := st_wR r84 (cc := 7) 78 (a := 0) (b := 41) rfl (by decide) (by decide)
  have f85 := fw_wR f84 e85 (by omega)
  have j85 := (jw_wR e85).trans j84
  have p85 := pr_sR (j := 78) (v := some 41) p84 (by decide)
  obtain ⟨u86, e86, r86⟩ := st_mka r85 0 (z := 18) (k := 42) (by omega) (by omega) rfl
  have f86 := fw_mka f85 e86 (by omega) (by omega)
  have j86 := (jw_mka e86 (by omega) (by omega)).trans j85
  have p86 := pr_nA (kd := 0) (n := 18) p85
  obtain ⟨u87, e87, r87⟩ := st_wR r86 (cc := 7) 79 (a := 0) (b := 42) rfl (by decide) (by decide)
  have f87 := fw_wR f86 e87 (by omega)
  have j87 := (jw_wR e87).trans j86
  have p87 := pr_sR (j := 79) (v := some 42) p86 (by decide)
  obtain ⟨u88, e88, r88⟩ := st_mka r87 1 (z := 3) (k := 43) (by omega) (by omega) rfl
  have f88 := fw_mka f87 e88 (by omega) (by omega)
  have j88 := (jw_mka e88 (by omega) (by omega)).trans j87
  have p88 := pr_nA (kd := 1) (n := 3) p87
  obtain ⟨u89, e89, r89⟩ := st_wR r88 (cc := 7) 80 (a := 0) (b := 43) rfl (by decide) (by decide)
  have f89 := fw_wR f88 e89 (by omega)
  have j89 := (jw_wR e89).trans j88
  have p89 := pr_sR (j := 80) (v := some 43) p88 (by decide)
  obtain ⟨u90, e90, r90⟩ := st_mka r89 0 (z := 84) (k := 44) (by omega) (by omega) rfl
  have f90 := fw_mka f89 e90 (by omega) (by omega)
  have j90 := (jw_mka e90 (by omega) (by omega)).trans j89
  have p90 := pr_nA (kd := 0) (n := 84) p89
  obtain ⟨u91, e91, r91⟩ := st_wR r90 (cc := 7) 81 (a := 0) (b := 44) rfl (by decide) (by decide)
  have f91 := fw_wR f90 e91 (by omega)
  have j91 := (jw_wR e91).trans j90
  have p91 := pr_sR (j := 81) (v := some 44) p90 (by decide)
  refine ⟨_, u91, r91, ⟨⟨rfl, rfl⟩, rfl, rfl, fun j h1 h2 h3 => ?_, by decide +kernel, fun k hk => ?_, fun j h1 h2 h3 => ?_, p91⟩, f91, j91, ?_⟩
  · have : j = 1 ∨ j = 3 ∨ j = 4 ∨ j = 5 ∨ j = 6 ∨ j = 7 ∨ j = 8 ∨ j = 9 ∨ j = 10 ∨ j = 11 ∨ j = 12 ∨ j = 13 ∨ j = 14 ∨ j = 15 ∨ j = 16 ∨ j = 17 ∨ j = 18 ∨ j = 19 ∨ j = 20 ∨ j = 21 ∨ j = 22 ∨ j = 23 ∨ j = 24 ∨ j = 25 ∨ j = 26 ∨ j = 27 ∨ j = 28 ∨ j = 29 ∨ j = 30 ∨ j = 31 ∨ j = 32 ∨ j = 33 ∨ j = 34 ∨ j = 35 ∨ j = 36 ∨ j = 37 ∨ j = 38 ∨ j = 39 ∨ j = 40 ∨ j = 41 ∨ j = 42 ∨ j = 43 ∨ j = 44 := by omega
    rcases this with rfl | rfl | rfl | rfl | rfl | rfl | rfl | rfl | rfl | rfl | rfl | rfl | rfl | rfl | rfl | rfl | rfl | rfl | rfl | rfl | rfl | rfl | rfl | rfl | rfl | rfl | rfl | rfl | rfl | rfl | rfl | rfl | rfl | rfl | rfl | rfl | rfl | rfl | rfl | rfl | rfl | rfl | rfl <;> rfl
  · have : ∀ k, 82 ≤ k → (if k = 47 then (6 : Int32) else if k = 46 then 8 else if k = 3 then -1 else 0) = 0 := fun k hk => by rw [if_neg (by omega), if_neg (by omega), if_neg (by omega)]
    exact this k hk
  · have : j = 1 ∨ j = 3 ∨ j = 4 ∨ j = 5 ∨ j = 6 ∨ j = 7 ∨ j = 8 ∨ j = 9 ∨ j = 10 ∨ j = 11 ∨ j = 12 ∨ j = 13 ∨ j = 14 ∨ j = 15 ∨ j = 16 ∨ j = 17 ∨ j = 18 ∨ j = 19 ∨ j = 20 ∨ j = 21 ∨ j = 22 ∨ j = 23 ∨ j = 24 ∨ j = 25 ∨ j = 26 ∨ j = 27 ∨ j = 28 ∨ j = 29 ∨ j = 30 ∨ j = 31 ∨ j = 32 ∨ j = 33 ∨ j = 34 ∨ j = 35 ∨ j = 36 ∨ j = 37 ∨ j = 38 ∨ j = 39 ∨ j = 40 ∨ j = 41 ∨ j = 42 ∨ j = 43 ∨ j = 44 := by omega
    rcases this with rfl | rfl | rfl | rfl | rfl | rfl | rfl | rfl | rfl | rfl | rfl | rfl | rfl | rfl | rfl | rfl | rfl | rfl | rfl | rfl | rfl | rfl | rfl | rfl | rfl | rfl | rfl | rfl | rfl | rfl | rfl | rfl | rfl | rfl | rfl | rfl | rfl | rfl | rfl | rfl | rfl | rfl | rfl <;> rfl
  unfold fy_m_init
  simp only [iI_lit] at *
  simp only [e1, e2, e3, e4, e5, e6, e7, e8, e9, e10, e11, e12, e13, e14, e15, e16, e17, e18, e19, e20, e21, e22, e23, e24, e25, e26, e27, e28, e29, e30, e31, e32, e33, e34, e35, e36, e37, e38, e39, e40, e41, e42, e43, e44, e45, e46, e47, e48, e49, e50, e51, e52, e53, e54, e55, e56, e57, e58, e59, e60, e61, e62, e63, e64, e65, e66, e67, e68, e69, e70, e71, e72, e73, e74, e75, e76, e77, e78, e79, e80, e81, e82, e83, e84, e85, e86, e87, e88, e89, e90, e91, obs]
end P4B

/-! THE LAW: the cases of its switch (printed by tools/gen_p2.py) -/
set_option maxRecDepth 100000
section P2
variable {α : Type} {G : ai_G} {P : α → Option ai_R → Prop} {z9 : Option α} {X M b n : Nat} {y : yS} {s : mS} {h0 : ai_H} {f : Nat → Int32} {z : Int}
theorem IV.bb {s1 : mS} (h : IV G X M y s1) (hO : hOld G h0) {c : ai_C} (hb : G.2 b = some c) : ai_rd G (mH M s (yH y h0)) b = some c := by
  have h1 := h.2.2.2.2.2 b c hb
  have h2 := (h.2.1 b c hb).1
  unfold ai_rd
  have : (mH M s (yH y h0)).1 b = none := by
    show (if b = M then some (.inr (7, mF M s)) else if M < b ∧ b < M + 45 then some (mA s (b - M)) else yC y b (h0.1 b)) = _
    rw [if_neg (by omega), if_neg (by omega)]
    unfold yC
    rw [h2]
    exact hO b c hb
  rw [this]
  exact hb
theorem lc_feed (hO : hOld G h0) (hG : okW G) (hg : okG G) (I : IV G X M y s) (hr : G.2 b = some (.inl (0, n, .inl f))) (hz : 0 ≤ z) (hn : z + 6 ≤ n ∧ n ≤ 384) (kk : ∀ y' s', IV G X M y' s' → bnd y y' → Tj G 133 0 P z9 1427 [some (.ref b), some (.ref X), some (.ref M), some (.int (iI z))] [] (mH M s' (yH y' h0))) : Tj G 133 0 P z9 220 [some (.ref b), some (.ref X), some (.ref M), some (.int (iI z))] [] (mH M s (yH y h0)) := by
  obtain ⟨v, y', s', c1, c2, I2, hbd⟩ := q_feed hO hG hg I (f (z + 1).toNat) (f (z + 2).toNat) (f (z + 3).toNat) (f (z + 4).toNat) (f (z + 5).toNat)
  refine tq_aload_n dL_law_220 rfl ?_
  refine tl_arg dL_law_221 dL_law_222 dL_law_223 dL_law_224 dL_law_225 (I.bb hO hr) ⟨by omega, by omega⟩ ⟨by omega, by omega⟩ (by omega) ?_
  refine tl_arg dL_law_226 dL_law_227 dL_law_228 dL_law_229 dL_law_230 (I.bb hO hr) ⟨by omega, by omega⟩ ⟨by omega, by omega⟩ (by omega) ?_
  refine tl_arg dL_law_231 dL_law_232 dL_law_233 dL_law_234 dL_law_235 (I.bb hO hr) ⟨by omega, by omega⟩ ⟨by omega, by omega⟩ (by omega) ?_
  refine tl_arg dL_law_236 dL_law_237 dL_law_238 dL_law_239 dL_law_240 (I.bb hO hr) ⟨by omega, by omega⟩ ⟨by omega, by omega⟩ (by omega) ?_
  refine tl_arg dL_law_241 dL_law_242 dL_law_243 dL_law_244 dL_law_245 (I.bb hO hr) ⟨by omega, by omega⟩ ⟨by omega, by omega⟩ (by omega) ?_
  refine tl_callV [.int (f (z + 1).toNat), .int (f (z + 2).toNat), .int (f (z + 3).toNat), .int (f (z + 4).toNat), .int (f (z + 5).toNat)] dL_law_246 rfl I.x rfl rfl rfl (Nat.le_of_ble_eq_true rfl) rfl c1 ?_
  refine tq_aload_n dL_law_249 rfl ?_
  refine tl_arg dL_law_250 dL_law_251 dL_law_252 dL_law_253 dL_law_254 (I2.bb hO hr) ⟨by omega, by omega⟩ ⟨by omega, by omega⟩ (by omega) ?_
  refine tl_arg dL_law_255 dL_law_256 dL_law_257 dL_law_258 dL_law_259 (I2.bb hO hr) ⟨by omega, by omega⟩ ⟨by omega, by omega⟩ (by omega) ?_
  refine tl_arg dL_law_260 dL_law_261 dL_law_262 dL_law_263 dL_law_264 (I2.bb hO hr) ⟨by omega, by omega⟩ ⟨by omega, by omega⟩ (by omega) ?_
  refine tl_arg dL_law_265 dL_law_266 dL_law_267 dL_law_268 dL_law_269 (I2.bb hO hr) ⟨by omega, by omega⟩ ⟨by omega, by omega⟩ (by omega) ?_
  refine tl_arg dL_law_270 dL_law_271 dL_law_272 dL_law_273 dL_law_274 (I2.bb hO hr) ⟨by omega, by omega⟩ ⟨by omega, by omega⟩ (by omega) ?_
  refine tl_callV [.int (f (z + 1).toNat), .int (f (z + 2).toNat), .int (f (z + 3).toNat), .int (f (z + 4).toNat), .int (f (z + 5).toNat)] dL_law_275 rfl IV.m rfl rfl rfl (Nat.le_of_ble_eq_true rfl) rfl c2 ?_
  refine tl_icmpeq dL_law_278 rfl ?_
  exact kk y' s' I2 hbd
theorem lc_end (hO : hOld G h0) (hG : okW G) (hg : okG G) (I : IV G X M y s) (hr : G.2 b = some (.inl (0, n, .inl f))) (hz : 0 ≤ z) (hn : z + 6 ≤ n ∧ n ≤ 384) (kk : ∀ y' s', IV G X M y' s' → bnd y y' → Tj G 133 0 P z9 1427 [some (.ref b), some (.ref X), some (.ref M), some (.int (iI z))] [] (mH M s' (yH y' h0))) : Tj G 133 0 P z9 283 [some (.ref b), some (.ref X), some (.ref M), some (.int (iI z))] [] (mH M s (yH y h0)) := by
  obtain ⟨v, y', s', c1, c2, I2, hbd⟩ := q_end hO hG hg I (f (z + 1).toNat)
  refine tq_aload_n dL_law_283 rfl ?_
  refine tl_arg dL_law_284 dL_law_285 dL_law_286 dL_law_287 dL_law_288 (I.bb hO hr) ⟨by omega, by omega⟩ ⟨by omega, by omega⟩ (by omega) ?_
  refine tl_callV [.int (f (z + 1).toNat)] dL_law_289 rfl I.x rfl rfl rfl (Nat.le_of_ble_eq_true rfl) rfl c1 ?_
  refine tq_aload_n dL_law_292 rfl ?_
  refine tl_arg dL_law_293 dL_law_294 dL_law_295 dL_law_296 dL_law_297 (I2.bb hO hr) ⟨by omega, by omega⟩ ⟨by omega, by omega⟩ (by omega) ?_
  refine tl_callV [.int (f (z + 1).toNat)] dL_law_298 rfl IV.m rfl rfl rfl (Nat.le_of_ble_eq_true rfl) rfl c2 ?_
  refine tl_icmpeq dL_law_301 rfl ?_
  exact kk y' s' I2 hbd
theorem lc_river (hO : hOld G h0) (hG : okW G) (hg : okG G) (I : IV G X M y s) (hr : G.2 b = some (.inl (0, n, .inl f))) (hz : 0 ≤ z) (hn : z + 6 ≤ n ∧ n ≤ 384) (kk : ∀ y' s', IV G X M y' s' → bnd y y' → Tj G 133 0 P z9 1427 [some (.ref b), some (.ref X), some (.ref M), some (.int (iI z))] [] (mH M s' (yH y' h0))) : Tj G 133 0 P z9 306 [some (.ref b), some (.ref X), some (.ref M), some (.int (iI z))] [] (mH M s (yH y h0)) := by
  obtain ⟨v, y', s', c1, c2, I2, hbd⟩ := q_river hO hG hg I
  refine tq_aload_n dL_law_306 rfl ?_
  refine tl_callV [] dL_law_307 rfl I.x rfl rfl rfl (Nat.le_of_ble_eq_true rfl) rfl c1 ?_
  refine tq_aload_n dL_law_310 rfl ?_
  refine tl_callV [] dL_law_311 rfl IV.m rfl rfl rfl (Nat.le_of_ble_eq_true rfl) rfl c2 ?_
  refine tl_icmpeq dL_law_314 rfl ?_
  exact kk y' s' I2 hbd
theorem lc_fault (hO : hOld G h0) (hG : okW G) (hg : okG G) (I : IV G X M y s) (hr : G.2 b = some (.inl (0, n, .inl f))) (hz : 0 ≤ z) (hn : z + 6 ≤ n ∧ n ≤ 384) (kk : ∀ y' s', IV G X M y' s' → bnd y y' → Tj G 133 0 P z9 1427 [some (.ref b), some (.ref X), some (.ref M), some (.int (iI z))] [] (mH M s' (yH y' h0))) : Tj G 133 0 P z9 319 [some (.ref b), some (.ref X), some (.ref M), some (.int (iI z))] [] (mH M s (yH y h0)) := by
  obtain ⟨v, y', s', c1, c2, I2, hbd⟩ := q_fault hO hG hg I (f (z + 1).toNat)
  refine tq_aload_n dL_law_319 rfl ?_
  refine tl_arg dL_law_320 dL_law_321 dL_law_322 dL_law_323 dL_law_324 (I.bb hO hr) ⟨by omega, by omega⟩ ⟨by omega, by omega⟩ (by omega) ?_
  refine tl_callV [.int (f (z + 1).toNat)] dL_law_325 rfl I.x rfl rfl rfl (Nat.le_of_ble_eq_true rfl) rfl c1 ?_
  refine tq_aload_n dL_law_328 rfl ?_
  refine tl_arg dL_law_329 dL_law_330 dL_law_331 dL_law_332 dL_law_333 (I2.bb hO hr) ⟨by omega, by omega⟩ ⟨by omega, by omega⟩ (by omega) ?_
  refine tl_callV [.int (f (z + 1).toNat)] dL_law_334 rfl IV.m rfl rfl rfl (Nat.le_of_ble_eq_true rfl) rfl c2 ?_
  refine tl_icmpeq dL_law_337 rfl ?_
  exact kk y' s' I2 hbd
theorem lc_board (hO : hOld G h0) (hG : okW G) (hg : okG G) (I : IV G X M y s) (hr : G.2 b = some (.inl (0, n, .inl f))) (hz : 0 ≤ z) (hn : z + 6 ≤ n ∧ n ≤ 384) (kk : ∀ y' s', IV G X M y' s' → bnd y y' → Tj G 133 0 P z9 1427 [some (.ref b), some (.ref X), some (.ref M), some (.int (iI z))] [] (mH M s' (yH y' h0))) : Tj G 133 0 P z9 342 [some (.ref b), some (.ref X), some (.ref M), some (.int (iI z))] [] (mH M s (yH y h0)) := by
  obtain ⟨v, y', s', c1, c2, I2, hbd⟩ := q_board hO hG hg I (f (z + 1).toNat) (f (z + 2).toNat)
  refine tq_aload_n dL_law_342 rfl ?_
  refine tl_arg dL_law_343 dL_law_344 dL_law_345 dL_law_346 dL_law_347 (I.bb hO hr) ⟨by omega, by omega⟩ ⟨by omega, by omega⟩ (by omega) ?_
  refine tl_arg dL_law_348 dL_law_349 dL_law_350 dL_law_351 dL_law_352 (I.bb hO hr) ⟨by omega, by omega⟩ ⟨by omega, by omega⟩ (by omega) ?_
  refine tl_callV [.int (f (z + 1).toNat), .int (f (z + 2).toNat)] dL_law_353 rfl I.x rfl rfl rfl (Nat.le_of_ble_eq_true rfl) rfl c1 ?_
  refine tq_aload_n dL_law_356 rfl ?_
  refine tl_arg dL_law_357 dL_law_358 dL_law_359 dL_law_360 dL_law_361 (I2.bb hO hr) ⟨by omega, by omega⟩ ⟨by omega, by omega⟩ (by omega) ?_
  refine tl_arg dL_law_362 dL_law_363 dL_law_364 dL_law_365 dL_law_366 (I2.bb hO hr) ⟨by omega, by omega⟩ ⟨by omega, by omega⟩ (by omega) ?_
  refine tl_callV [.int (f (z + 1).toNat), .int (f (z + 2).toNat)] dL_law_367 rfl IV.m rfl rfl rfl (Nat.le_of_ble_eq_true rfl) rfl c2 ?_
  refine tl_icmpeq dL_law_370 rfl ?_
  exact kk y' s' I2 hbd
theorem lc_load (hO : hOld G h0) (hG : okW G) (hg : okG G) (I : IV G X M y s) (hr : G.2 b = some (.inl (0, n, .inl f))) (hz : 0 ≤ z) (hn : z + 6 ≤ n ∧ n ≤ 384) (kk : ∀ y' s', IV G X M y' s' → bnd y y' → Tj G 133 0 P z9 1427 [some (.ref b), some (.ref X), some (.ref M), some (.int (iI z))] [] (mH M s' (yH y' h0))) : Tj G 133 0 P z9 375 [some (.ref b), some (.ref X), some (.ref M), some (.int (iI z))] [] (mH M s (yH y h0)) := by
  obtain ⟨v, y', s', c1, c2, I2, hbd⟩ := q_load hO hG hg I (f (z + 1).toNat) (f (z + 2).toNat)
  refine tq_aload_n dL_law_375 rfl ?_
  refine tl_arg dL_law_376 dL_law_377 dL_law_378 dL_law_379 dL_law_380 (I.bb hO hr) ⟨by omega, by omega⟩ ⟨by omega, by omega⟩ (by omega) ?_
  refine tl_arg dL_law_381 dL_law_382 dL_law_383 dL_law_384 dL_law_385 (I.bb hO hr) ⟨by omega, by omega⟩ ⟨by omega, by omega⟩ (by omega) ?_
  refine tl_callV [.int (f (z + 1).toNat), .int (f (z + 2).toNat)] dL_law_386 rfl I.x rfl rfl rfl (Nat.le_of_ble_eq_true rfl) rfl c1 ?_
  refine tq_aload_n dL_law_389 rfl ?_
  refine tl_arg dL_law_390 dL_law_391 dL_law_392 dL_law_393 dL_law_394 (I2.bb hO hr) ⟨by omega, by omega⟩ ⟨by omega, by omega⟩ (by omega) ?_
  refine tl_arg dL_law_395 dL_law_396 dL_law_397 dL_law_398 dL_law_399 (I2.bb hO hr) ⟨by omega, by omega⟩ ⟨by omega, by omega⟩ (by omega) ?_
  refine tl_callV [.int (f (z + 1).toNat), .int (f (z + 2).toNat)] dL_law_400 rfl IV.m rfl rfl rfl (Nat.le_of_ble_eq_true rfl) rfl c2 ?_
  refine tl_icmpeq dL_law_403 rfl ?_
  exact kk y' s' I2 hbd
theorem lc_spot (hO : hOld G h0) (hG : okW G) (hg : okG G) (I : IV G X M y s) (hr : G.2 b = some (.inl (0, n, .inl f))) (hz : 0 ≤ z) (hn : z + 6 ≤ n ∧ n ≤ 384) (kk : ∀ y' s', IV G X M y' s' → bnd y y' → Tj G 133 0 P z9 1427 [some (.ref b), some (.ref X), some (.ref M), some (.int (iI z))] [] (mH M s' (yH y' h0))) : Tj G 133 0 P z9 408 [some (.ref b), some (.ref X), some (.ref M), some (.int (iI z))] [] (mH M s (yH y h0)) := by
  obtain ⟨v, y', s', c1, c2, I2, hbd⟩ := q_spot hO hG hg I (f (z + 1).toNat) (f (z + 2).toNat) (f (z + 3).toNat)
  refine tq_aload_n dL_law_408 rfl ?_
  refine tl_arg dL_law_409 dL_law_410 dL_law_411 dL_law_412 dL_law_413 (I.bb hO hr) ⟨by omega, by omega⟩ ⟨by omega, by omega⟩ (by omega) ?_
  refine tl_arg dL_law_414 dL_law_415 dL_law_416 dL_law_417 dL_law_418 (I.bb hO hr) ⟨by omega, by omega⟩ ⟨by omega, by omega⟩ (by omega) ?_
  refine tl_arg dL_law_419 dL_law_420 dL_law_421 dL_law_422 dL_law_423 (I.bb hO hr) ⟨by omega, by omega⟩ ⟨by omega, by omega⟩ (by omega) ?_
  refine tl_callV [.int (f (z + 1).toNat), .int (f (z + 2).toNat), .int (f (z + 3).toNat)] dL_law_424 rfl I.x rfl rfl rfl (Nat.le_of_ble_eq_true rfl) rfl c1 ?_
  refine tq_aload_n dL_law_427 rfl ?_
  refine tl_arg dL_law_428 dL_law_429 dL_law_430 dL_law_431 dL_law_432 (I2.bb hO hr) ⟨by omega, by omega⟩ ⟨by omega, by omega⟩ (by omega) ?_
  refine tl_arg dL_law_433 dL_law_434 dL_law_435 dL_law_436 dL_law_437 (I2.bb hO hr) ⟨by omega, by omega⟩ ⟨by omega, by omega⟩ (by omega) ?_
  refine tl_arg dL_law_438 dL_law_439 dL_law_440 dL_law_441 dL_law_442 (I2.bb hO hr) ⟨by omega, by omega⟩ ⟨by omega, by omega⟩ (by omega) ?_
  refine tl_callV [.int (f (z + 1).toNat), .int (f (z + 2).toNat), .int (f (z + 3).toNat)] dL_law_443 rfl IV.m rfl rfl rfl (Nat.le_of_ble_eq_true rfl) rfl c2 ?_
  refine tl_icmpeq dL_law_446 rfl ?_
  exact kk y' s' I2 hbd
theorem lc_hotter (hO : hOld G h0) (hG : okW G) (hg : okG G) (I : IV G X M y s) (hr : G.2 b = some (.inl (0, n, .inl f))) (hz : 0 ≤ z) (hn : z + 6 ≤ n ∧ n ≤ 384) (kk : ∀ y' s', IV G X M y' s' → bnd y y' → Tj G 133 0 P z9 1427 [some (.ref b), some (.ref X), some (.ref M), some (.int (iI z))] [] (mH M s' (yH y' h0))) : Tj G 133 0 P z9 451 [some (.ref b), some (.ref X), some (.ref M), some (.int (iI z))] [] (mH M s (yH y h0)) := by
  obtain ⟨v, y', s', c1, c2, I2, hbd⟩ := q_hotter hO hG hg I (f (z + 1).toNat)
  refine tq_aload_n dL_law_451 rfl ?_
  refine tl_arg dL_law_452 dL_law_453 dL_law_454 dL_law_455 dL_law_456 (I.bb hO hr) ⟨by omega, by omega⟩ ⟨by omega, by omega⟩ (by omega) ?_
  refine tl_callV [.int (f (z + 1).toNat)] dL_law_457 rfl I.x rfl rfl rfl (Nat.le_of_ble_eq_true rfl) rfl c1 ?_
  refine tq_aload_n dL_law_460 rfl ?_
  refine tl_arg dL_law_461 dL_law_462 dL_law_463 dL_law_464 dL_law_465 (I2.bb hO hr) ⟨by omega, by omega⟩ ⟨by omega, by omega⟩ (by omega) ?_
  refine tl_callV [.int (f (z + 1).toNat)] dL_law_466 rfl IV.m rfl rfl rfl (Nat.le_of_ble_eq_true rfl) rfl c2 ?_
  refine tl_icmpeq dL_law_469 rfl ?_
  exact kk y' s' I2 hbd
theorem lc_stroke (hO : hOld G h0) (hG : okW G) (hg : okG G) (I : IV G X M y s) (hr : G.2 b = some (.inl (0, n, .inl f))) (hz : 0 ≤ z) (hn : z + 6 ≤ n ∧ n ≤ 384) (kk : ∀ y' s', IV G X M y' s' → bnd y y' → Tj G 133 0 P z9 1427 [some (.ref b), some (.ref X), some (.ref M), some (.int (iI z))] [] (mH M s' (yH y' h0))) : Tj G 133 0 P z9 474 [some (.ref b), some (.ref X), some (.ref M), some (.int (iI z))] [] (mH M s (yH y h0)) := by
  by_cases hx : f (z + 3).toNat = 0
  · obtain ⟨v, y', s', c1, c2, I2, hbd⟩ := q_stroke hO hG hg I (f (z + 1).toNat) (f (z + 2).toNat) 0 (Or.inl rfl)
    refine tq_aload_n dL_law_474 rfl ?_
    refine tl_arg dL_law_475 dL_law_476 dL_law_477 dL_law_478 dL_law_479 (I.bb hO hr) ⟨by omega, by omega⟩ ⟨by omega, by omega⟩ (by omega) ?_
    refine tl_arg dL_law_480 dL_law_481 dL_law_482 dL_law_483 dL_law_484 (I.bb hO hr) ⟨by omega, by omega⟩ ⟨by omega, by omega⟩ (by omega) ?_
    refine tl_arg dL_law_485 dL_law_486 dL_law_487 dL_law_488 dL_law_489 (I.bb hO hr) ⟨by omega, by omega⟩ ⟨by omega, by omega⟩ (by omega) ?_
    refine tl_ifeq1 dL_law_490 rfl hx ?_
    refine tq_iconst dL_law_497 (v := 0) rfl ?_
    refine tl_callV [.int (f (z + 1).toNat), .int (f (z + 2).toNat), .int 0] dL_law_498 rfl I.x rfl rfl rfl (Nat.le_of_ble_eq_true rfl) rfl c1 ?_
    refine tq_aload_n dL_law_501 rfl ?_
    refine tl_arg dL_law_502 dL_law_503 dL_law_504 dL_law_505 dL_law_506 (I2.bb hO hr) ⟨by omega, by omega⟩ ⟨by omega, by omega⟩ (by omega) ?_
    refine tl_arg dL_law_507 dL_law_508 dL_law_509 dL_law_510 dL_law_511 (I2.bb hO hr) ⟨by omega, by omega⟩ ⟨by omega, by omega⟩ (by omega) ?_
    refine tl_arg dL_law_512 dL_law_513 dL_law_514 dL_law_515 dL_law_516 (I2.bb hO hr) ⟨by omega, by omega⟩ ⟨by omega, by omega⟩ (by omega) ?_
    refine tl_ifeq1 dL_law_517 rfl hx ?_
    refine tq_iconst dL_law_524 (v := 0) rfl ?_
    refine tl_callV [.int (f (z + 1).toNat), .int (f (z + 2).toNat), .int 0] dL_law_525 rfl IV.m rfl rfl rfl (Nat.le_of_ble_eq_true rfl) rfl c2 ?_
    refine tl_icmpeq dL_law_528 rfl ?_
    exact kk y' s' I2 hbd
  · obtain ⟨v, y', s', c1, c2, I2, hbd⟩ := q_stroke hO hG hg I (f (z + 1).toNat) (f (z + 2).toNat) 1 (Or.inr rfl)
    refine tq_aload_n dL_law_474 rfl ?_
    refine tl_arg dL_law_475 dL_law_476 dL_law_477 dL_law_478 dL_law_479 (I.bb hO hr) ⟨by omega, by omega⟩ ⟨by omega, by omega⟩ (by omega) ?_
    refine tl_arg dL_law_480 dL_law_481 dL_law_482 dL_law_483 dL_law_484 (I.bb hO hr) ⟨by omega, by omega⟩ ⟨by omega, by omega⟩ (by omega) ?_
    refine tl_arg dL_law_485 dL_law_486 dL_law_487 dL_law_488 dL_law_489 (I.bb hO hr) ⟨by omega, by omega⟩ ⟨by omega, by omega⟩ (by omega) ?_
    refine tl_ifeq0 dL_law_490 rfl hx ?_
    refine tq_iconst dL_law_493 (v := 1) rfl ?_
    refine tq_goto dL_law_494 rfl ?_
    refine tl_callV [.int (f (z + 1).toNat), .int (f (z + 2).toNat), .int 1] dL_law_498 rfl I.x rfl rfl rfl (Nat.le_of_ble_eq_true rfl) rfl c1 ?_
    refine tq_aload_n dL_law_501 rfl ?_
    refine tl_arg dL_law_502 dL_law_503 dL_law_504 dL_law_505 dL_law_506 (I2.bb hO hr) ⟨by omega, by omega⟩ ⟨by omega, by omega⟩ (by omega) ?_
    refine tl_arg dL_law_507 dL_law_508 dL_law_509 dL_law_510 dL_law_511 (I2.bb hO hr) ⟨by omega, by omega⟩ ⟨by omega, by omega⟩ (by omega) ?_
    refine tl_arg dL_law_512 dL_law_513 dL_law_514 dL_law_515 dL_law_516 (I2.bb hO hr) ⟨by omega, by omega⟩ ⟨by omega, by omega⟩ (by omega) ?_
    refine tl_ifeq0 dL_law_517 rfl hx ?_
    refine tq_iconst dL_law_520 (v := 1) rfl ?_
    refine tq_goto dL_law_521 rfl ?_
    refine tl_callV [.int (f (z + 1).toNat), .int (f (z + 2).toNat), .int 1] dL_law_525 rfl IV.m rfl rfl rfl (Nat.le_of_ble_eq_true rfl) rfl c2 ?_
    refine tl_icmpeq dL_law_528 rfl ?_
    exact kk y' s' I2 hbd
theorem lc_stow (hO : hOld G h0) (hG : okW G) (hg : okG G) (I : IV G X M y s) (hr : G.2 b = some (.inl (0, n, .inl f))) (hz : 0 ≤ z) (hn : z + 6 ≤ n ∧ n ≤ 384) (kk : ∀ y' s', IV G X M y' s' → bnd y y' → Tj G 133 0 P z9 1427 [some (.ref b), some (.ref X), some (.ref M), some (.int (iI z))] [] (mH M s' (yH y' h0))) : Tj G 133 0 P z9 533 [some (.ref b), some (.ref X), some (.ref M), some (.int (iI z))] [] (mH M s (yH y h0)) := by
  obtain ⟨v, y', s', c1, c2, I2, hbd⟩ := q_stow hO hG hg I (f (z + 1).toNat) (f (z + 2).toNat)
  refine tq_aload_n dL_law_533 rfl ?_
  refine tl_arg dL_law_534 dL_law_535 dL_law_536 dL_law_537 dL_law_538 (I.bb hO hr) ⟨by omega, by omega⟩ ⟨by omega, by omega⟩ (by omega) ?_
  refine tl_arg dL_law_539 dL_law_540 dL_law_541 dL_law_542 dL_law_543 (I.bb hO hr) ⟨by omega, by omega⟩ ⟨by omega, by omega⟩ (by omega) ?_
  refine tl_callV [.int (f (z + 1).toNat), .int (f (z + 2).toNat)] dL_law_544 rfl I.x rfl rfl rfl (Nat.le_of_ble_eq_true rfl) rfl c1 ?_
  refine tq_aload_n dL_law_547 rfl ?_
  refine tl_arg dL_law_548 dL_law_549 dL_law_550 dL_law_551 dL_law_552 (I2.bb hO hr) ⟨by omega, by omega⟩ ⟨by omega, by omega⟩ (by omega) ?_
  refine tl_arg dL_law_553 dL_law_554 dL_law_555 dL_law_556 dL_law_557 (I2.bb hO hr) ⟨by omega, by omega⟩ ⟨by omega, by omega⟩ (by omega) ?_
  refine tl_callV [.int (f (z + 1).toNat), .int (f (z + 2).toNat)] dL_law_558 rfl IV.m rfl rfl rfl (Nat.le_of_ble_eq_true rfl) rfl c2 ?_
  refine tl_icmpeq dL_law_561 rfl ?_
  exact kk y' s' I2 hbd
theorem lc_take (hO : hOld G h0) (hG : okW G) (hg : okG G) (I : IV G X M y s) (hr : G.2 b = some (.inl (0, n, .inl f))) (hz : 0 ≤ z) (hn : z + 6 ≤ n ∧ n ≤ 384) (kk : ∀ y' s', IV G X M y' s' → bnd y y' → Tj G 133 0 P z9 1427 [some (.ref b), some (.ref X), some (.ref M), some (.int (iI z))] [] (mH M s' (yH y' h0))) : Tj G 133 0 P z9 566 [some (.ref b), some (.ref X), some (.ref M), some (.int (iI z))] [] (mH M s (yH y h0)) := by
  obtain ⟨v, y', s', c1, c2, I2, hbd⟩ := q_take hO hG hg I (f (z + 1).toNat)
  refine tq_aload_n dL_law_566 rfl ?_
  refine tl_arg dL_law_567 dL_law_568 dL_law_569 dL_law_570 dL_law_571 (I.bb hO hr) ⟨by omega, by omega⟩ ⟨by omega, by omega⟩ (by omega) ?_
  refine tl_callV [.int (f (z + 1).toNat)] dL_law_572 rfl I.x rfl rfl rfl (Nat.le_of_ble_eq_true rfl) rfl c1 ?_
  refine tq_aload_n dL_law_575 rfl ?_
  refine tl_arg dL_law_576 dL_law_577 dL_law_578 dL_law_579 dL_law_580 (I2.bb hO hr) ⟨by omega, by omega⟩ ⟨by omega, by omega⟩ (by omega) ?_
  refine tl_callV [.int (f (z + 1).toNat)] dL_law_581 rfl IV.m rfl rfl rfl (Nat.le_of_ble_eq_true rfl) rfl c2 ?_
  refine tl_icmpeq dL_law_584 rfl ?_
  exact kk y' s' I2 hbd
theorem lc_cool (hO : hOld G h0) (hG : okW G) (hg : okG G) (I : IV G X M y s) (hr : G.2 b = some (.inl (0, n, .inl f))) (hz : 0 ≤ z) (hn : z + 6 ≤ n ∧ n ≤ 384) (kk : ∀ y' s', IV G X M y' s' → bnd y y' → Tj G 133 0 P z9 1427 [some (.ref b), some (.ref X), some (.ref M), some (.int (iI z))] [] (mH M s' (yH y' h0))) : Tj G 133 0 P z9 589 [some (.ref b), some (.ref X), some (.ref M), some (.int (iI z))] [] (mH M s (yH y h0)) := by
  obtain ⟨v, y', s', c1, c2, I2, hbd⟩ := q_cool hO hG hg I (f (z + 1).toNat) (f (z + 2).toNat)
  refine tq_aload_n dL_law_589 rfl ?_
  refine tl_arg dL_law_590 dL_law_591 dL_law_592 dL_law_593 dL_law_594 (I.bb hO hr) ⟨by omega, by omega⟩ ⟨by omega, by omega⟩ (by omega) ?_
  refine tl_arg dL_law_595 dL_law_596 dL_law_597 dL_law_598 dL_law_599 (I.bb hO hr) ⟨by omega, by omega⟩ ⟨by omega, by omega⟩ (by omega) ?_
  refine tl_callV [.int (f (z + 1).toNat), .int (f (z + 2).toNat)] dL_law_600 rfl I.x rfl rfl rfl (Nat.le_of_ble_eq_true rfl) rfl c1 ?_
  refine tq_aload_n dL_law_603 rfl ?_
  refine tl_arg dL_law_604 dL_law_605 dL_law_606 dL_law_607 dL_law_608 (I2.bb hO hr) ⟨by omega, by omega⟩ ⟨by omega, by omega⟩ (by omega) ?_
  refine tl_arg dL_law_609 dL_law_610 dL_law_611 dL_law_612 dL_law_613 (I2.bb hO hr) ⟨by omega, by omega⟩ ⟨by omega, by omega⟩ (by omega) ?_
  refine tl_callV [.int (f (z + 1).toNat), .int (f (z + 2).toNat)] dL_law_614 rfl IV.m rfl rfl rfl (Nat.le_of_ble_eq_true rfl) rfl c2 ?_
  refine tl_icmpeq dL_law_617 rfl ?_
  exact kk y' s' I2 hbd
theorem lc_undo (hO : hOld G h0) (hG : okW G) (hg : okG G) (I : IV G X M y s) (hr : G.2 b = some (.inl (0, n, .inl f))) (hz : 0 ≤ z) (hn : z + 6 ≤ n ∧ n ≤ 384) (kk : ∀ y' s', IV G X M y' s' → bnd y y' → Tj G 133 0 P z9 1427 [some (.ref b), some (.ref X), some (.ref M), some (.int (iI z))] [] (mH M s' (yH y' h0))) : Tj G 133 0 P z9 622 [some (.ref b), some (.ref X), some (.ref M), some (.int (iI z))] [] (mH M s (yH y h0)) := by
  obtain ⟨v, y', s', c1, c2, I2, hbd⟩ := q_undo hO hG hg I
  refine tq_aload_n dL_law_622 rfl ?_
  refine tl_callV [] dL_law_623 rfl I.x rfl rfl rfl (Nat.le_of_ble_eq_true rfl) rfl c1 ?_
  refine tq_aload_n dL_law_626 rfl ?_
  refine tl_callV [] dL_law_627 rfl IV.m rfl rfl rfl (Nat.le_of_ble_eq_true rfl) rfl c2 ?_
  refine tl_icmpeq dL_law_630 rfl ?_
  exact kk y' s' I2 hbd
theorem lc_redo (hO : hOld G h0) (hG : okW G) (hg : okG G) (I : IV G X M y s) (hr : G.2 b = some (.inl (0, n, .inl f))) (hz : 0 ≤ z) (hn : z + 6 ≤ n ∧ n ≤ 384) (kk : ∀ y' s', IV G X M y' s' → bnd y y' → Tj G 133 0 P z9 1427 [some (.ref b), some (.ref X), some (.ref M), some (.int (iI z))] [] (mH M s' (yH y' h0))) : Tj G 133 0 P z9 635 [some (.ref b), some (.ref X), some (.ref M), some (.int (iI z))] [] (mH M s (yH y h0)) := by
  obtain ⟨v, y', s', c1, c2, I2, hbd⟩ := q_redo hO hG hg I
  refine tq_aload_n dL_law_635 rfl ?_
  refine tl_callV [] dL_law_636 rfl I.x rfl rfl rfl (Nat.le_of_ble_eq_true rfl) rfl c1 ?_
  refine tq_aload_n dL_law_639 rfl ?_
  refine tl_callV [] dL_law_640 rfl IV.m rfl rfl rfl (Nat.le_of_ble_eq_true rfl) rfl c2 ?_
  refine tl_icmpeq dL_law_643 rfl ?_
  exact kk y' s' I2 hbd
theorem lc_landings (hO : hOld G h0) (hG : okW G) (hg : okG G) (I : IV G X M y s) (hr : G.2 b = some (.inl (0, n, .inl f))) (hz : 0 ≤ z) (hn : z + 6 ≤ n ∧ n ≤ 384) (kk : ∀ y' s', IV G X M y' s' → bnd y y' → Tj G 133 0 P z9 1427 [some (.ref b), some (.ref X), some (.ref M), some (.int (iI z))] [] (mH M s' (yH y' h0))) : Tj G 133 0 P z9 648 [some (.ref b), some (.ref X), some (.ref M), some (.int (iI z))] [] (mH M s (yH y h0)) := by
  obtain ⟨v, y', s', c1, c2, I2, hbd⟩ := q_landings hO hG hg I (f (z + 1).toNat)
  refine tq_aload_n dL_law_648 rfl ?_
  refine tl_arg dL_law_649 dL_law_650 dL_law_651 dL_law_652 dL_law_653 (I.bb hO hr) ⟨by omega, by omega⟩ ⟨by omega, by omega⟩ (by omega) ?_
  refine tl_callV [.int (f (z + 1).toNat)] dL_law_654 rfl I.x rfl rfl rfl (Nat.le_of_ble_eq_true rfl) rfl c1 ?_
  refine tq_aload_n dL_law_657 rfl ?_
  refine tl_arg dL_law_658 dL_law_659 dL_law_660 dL_law_661 dL_law_662 (I2.bb hO hr) ⟨by omega, by omega⟩ ⟨by omega, by omega⟩ (by omega) ?_
  refine tl_callV [.int (f (z + 1).toNat)] dL_law_663 rfl IV.m rfl rfl rfl (Nat.le_of_ble_eq_true rfl) rfl c2 ?_
  refine tl_icmpeq dL_law_666 rfl ?_
  exact kk y' s' I2 hbd
theorem lc_drift (hO : hOld G h0) (hG : okW G) (hg : okG G) (I : IV G X M y s) (hr : G.2 b = some (.inl (0, n, .inl f))) (hz : 0 ≤ z) (hn : z + 6 ≤ n ∧ n ≤ 384) (kk : ∀ y' s', IV G X M y' s' → bnd y y' → Tj G 133 0 P z9 1427 [some (.ref b), some (.ref X), some (.ref M), some (.int (iI z))] [] (mH M s' (yH y' h0))) : Tj G 133 0 P z9 671 [some (.ref b), some (.ref X), some (.ref M), some (.int (iI z))] [] (mH M s (yH y h0)) := by
  obtain ⟨v, y', s', c1, c2, I2, hbd⟩ := q_drift hO hG hg I (f (z + 1).toNat)
  refine tq_aload_n dL_law_671 rfl ?_
  refine tl_arg dL_law_672 dL_law_673 dL_law_674 dL_law_675 dL_law_676 (I.bb hO hr) ⟨by omega, by omega⟩ ⟨by omega, by omega⟩ (by omega) ?_
  refine tl_callV [.int (f (z + 1).toNat)] dL_law_677 rfl I.x rfl rfl rfl (Nat.le_of_ble_eq_true rfl) rfl c1 ?_
  refine tq_aload_n dL_law_680 rfl ?_
  refine tl_arg dL_law_681 dL_law_682 dL_law_683 dL_law_684 dL_law_685 (I2.bb hO hr) ⟨by omega, by omega⟩ ⟨by omega, by omega⟩ (by omega) ?_
  refine tl_callV [.int (f (z + 1).toNat)] dL_law_686 rfl IV.m rfl rfl rfl (Nat.le_of_ble_eq_true rfl) rfl c2 ?_
  refine tl_icmpeq dL_law_689 rfl ?_
  exact kk y' s' I2 hbd
theorem lc_rows (hO : hOld G h0) (hG : okW G) (hg : okG G) (I : IV G X M y s) (hr : G.2 b = some (.inl (0, n, .inl f))) (hz : 0 ≤ z) (hn : z + 6 ≤ n ∧ n ≤ 384) (kk : ∀ y' s', IV G X M y' s' → bnd y y' → Tj G 133 0 P z9 1427 [some (.ref b), some (.ref X), some (.ref M), some (.int (iI z))] [] (mH M s' (yH y' h0))) : Tj G 133 0 P z9 694 [some (.ref b), some (.ref X), some (.ref M), some (.int (iI z))] [] (mH M s (yH y h0)) := by
  obtain ⟨v, y', s', c1, c2, I2, hbd⟩ := q_rows hO hG hg I (f (z + 1).toNat)
  refine tq_aload_n dL_law_694 rfl ?_
  refine tl_arg dL_law_695 dL_law_696 dL_law_697 dL_law_698 dL_law_699 (I.bb hO hr) ⟨by omega, by omega⟩ ⟨by omega, by omega⟩ (by omega) ?_
  refine tl_callV [.int (f (z + 1).toNat)] dL_law_700 rfl I.x rfl rfl rfl (Nat.le_of_ble_eq_true rfl) rfl c1 ?_
  refine tq_aload_n dL_law_703 rfl ?_
  refine tl_arg dL_law_704 dL_law_705 dL_law_706 dL_law_707 dL_law_708 (I2.bb hO hr) ⟨by omega, by omega⟩ ⟨by omega, by omega⟩ (by omega) ?_
  refine tl_callV [.int (f (z + 1).toNat)] dL_law_709 rfl IV.m rfl rfl rfl (Nat.le_of_ble_eq_true rfl) rfl c2 ?_
  refine tl_icmpeq dL_law_712 rfl ?_
  exact kk y' s' I2 hbd
theorem lc_coolest (hO : hOld G h0) (hG : okW G) (hg : okG G) (I : IV G X M y s) (hr : G.2 b = some (.inl (0, n, .inl f))) (hz : 0 ≤ z) (hn : z + 6 ≤ n ∧ n ≤ 384) (kk : ∀ y' s', IV G X M y' s' → bnd y y' → Tj G 133 0 P z9 1427 [some (.ref b), some (.ref X), some (.ref M), some (.int (iI z))] [] (mH M s' (yH y' h0))) : Tj G 133 0 P z9 717 [some (.ref b), some (.ref X), some (.ref M), some (.int (iI z))] [] (mH M s (yH y h0)) := by
  obtain ⟨v, y', s', c1, c2, I2, hbd⟩ := q_coolest hO hG hg I (f (z + 1).toNat) (f (z + 2).toNat)
  refine tq_aload_n dL_law_717 rfl ?_
  refine tl_arg dL_law_718 dL_law_719 dL_law_720 dL_law_721 dL_law_722 (I.bb hO hr) ⟨by omega, by omega⟩ ⟨by omega, by omega⟩ (by omega) ?_
  refine tl_arg dL_law_723 dL_law_724 dL_law_725 dL_law_726 dL_law_727 (I.bb hO hr) ⟨by omega, by omega⟩ ⟨by omega, by omega⟩ (by omega) ?_
  refine tl_callV [.int (f (z + 1).toNat), .int (f (z + 2).toNat)] dL_law_728 rfl I.x rfl rfl rfl (Nat.le_of_ble_eq_true rfl) rfl c1 ?_
  refine tq_aload_n dL_law_731 rfl ?_
  refine tl_arg dL_law_732 dL_law_733 dL_law_734 dL_law_735 dL_law_736 (I2.bb hO hr) ⟨by omega, by omega⟩ ⟨by omega, by omega⟩ (by omega) ?_
  refine tl_arg dL_law_737 dL_law_738 dL_law_739 dL_law_740 dL_law_741 (I2.bb hO hr) ⟨by omega, by omega⟩ ⟨by omega, by omega⟩ (by omega) ?_
  refine tl_callV [.int (f (z + 1).toNat), .int (f (z + 2).toNat)] dL_law_742 rfl IV.m rfl rfl rfl (Nat.le_of_ble_eq_true rfl) rfl c2 ?_
  refine tl_icmpeq dL_law_745 rfl ?_
  exact kk y' s' I2 hbd
theorem lc_straight (hO : hOld G h0) (hG : okW G) (hg : okG G) (I : IV G X M y s) (hr : G.2 b = some (.inl (0, n, .inl f))) (hz : 0 ≤ z) (hn : z + 6 ≤ n ∧ n ≤ 384) (kk : ∀ y' s', IV G X M y' s' → bnd y y' → Tj G 133 0 P z9 1427 [some (.ref b), some (.ref X), some (.ref M), some (.int (iI z))] [] (mH M s' (yH y' h0))) : Tj G 133 0 P z9 750 [some (.ref b), some (.ref X), some (.ref M), some (.int (iI z))] [] (mH M s (yH y h0)) := by
  obtain ⟨v, y', s', c1, c2, I2, hbd⟩ := q_straight hO hG hg I (f (z + 1).toNat) (f (z + 2).toNat)
  refine tq_aload_n dL_law_750 rfl ?_
  refine tl_arg dL_law_751 dL_law_752 dL_law_753 dL_law_754 dL_law_755 (I.bb hO hr) ⟨by omega, by omega⟩ ⟨by omega, by omega⟩ (by omega) ?_
  refine tl_arg dL_law_756 dL_law_757 dL_law_758 dL_law_759 dL_law_760 (I.bb hO hr) ⟨by omega, by omega⟩ ⟨by omega, by omega⟩ (by omega) ?_
  refine tl_callV [.int (f (z + 1).toNat), .int (f (z + 2).toNat)] dL_law_761 rfl I.x rfl rfl rfl (Nat.le_of_ble_eq_true rfl) rfl c1 ?_
  refine tq_aload_n dL_law_764 rfl ?_
  refine tl_arg dL_law_765 dL_law_766 dL_law_767 dL_law_768 dL_law_769 (I2.bb hO hr) ⟨by omega, by omega⟩ ⟨by omega, by omega⟩ (by omega) ?_
  refine tl_arg dL_law_770 dL_law_771 dL_law_772 dL_law_773 dL_law_774 (I2.bb hO hr) ⟨by omega, by omega⟩ ⟨by omega, by omega⟩ (by omega) ?_
  refine tl_callV [.int (f (z + 1).toNat), .int (f (z + 2).toNat)] dL_law_775 rfl IV.m rfl rfl rfl (Nat.le_of_ble_eq_true rfl) rfl c2 ?_
  refine tl_icmpeq dL_law_778 rfl ?_
  exact kk y' s' I2 hbd
theorem lc_widest (hO : hOld G h0) (hG : okW G) (hg : okG G) (I : IV G X M y s) (hr : G.2 b = some (.inl (0, n, .inl f))) (hz : 0 ≤ z) (hn : z + 6 ≤ n ∧ n ≤ 384) (kk : ∀ y' s', IV G X M y' s' → bnd y y' → Tj G 133 0 P z9 1427 [some (.ref b), some (.ref X), some (.ref M), some (.int (iI z))] [] (mH M s' (yH y' h0))) : Tj G 133 0 P z9 783 [some (.ref b), some (.ref X), some (.ref M), some (.int (iI z))] [] (mH M s (yH y h0)) := by
  obtain ⟨v, y', s', c1, c2, I2, hbd⟩ := q_widest hO hG hg I (f (z + 1).toNat) (f (z + 2).toNat)
  refine tq_aload_n dL_law_783 rfl ?_
  refine tl_arg dL_law_784 dL_law_785 dL_law_786 dL_law_787 dL_law_788 (I.bb hO hr) ⟨by omega, by omega⟩ ⟨by omega, by omega⟩ (by omega) ?_
  refine tl_arg dL_law_789 dL_law_790 dL_law_791 dL_law_792 dL_law_793 (I.bb hO hr) ⟨by omega, by omega⟩ ⟨by omega, by omega⟩ (by omega) ?_
  refine tl_callV [.int (f (z + 1).toNat), .int (f (z + 2).toNat)] dL_law_794 rfl I.x rfl rfl rfl (Nat.le_of_ble_eq_true rfl) rfl c1 ?_
  refine tq_aload_n dL_law_797 rfl ?_
  refine tl_arg dL_law_798 dL_law_799 dL_law_800 dL_law_801 dL_law_802 (I2.bb hO hr) ⟨by omega, by omega⟩ ⟨by omega, by omega⟩ (by omega) ?_
  refine tl_arg dL_law_803 dL_law_804 dL_law_805 dL_law_806 dL_law_807 (I2.bb hO hr) ⟨by omega, by omega⟩ ⟨by omega, by omega⟩ (by omega) ?_
  refine tl_callV [.int (f (z + 1).toNat), .int (f (z + 2).toNat)] dL_law_808 rfl IV.m rfl rfl rfl (Nat.le_of_ble_eq_true rfl) rfl c2 ?_
  refine tl_icmpeq dL_law_811 rfl ?_
  exact kk y' s' I2 hbd
theorem lc_trips (hO : hOld G h0) (hG : okW G) (hg : okG G) (I : IV G X M y s) (hr : G.2 b = some (.inl (0, n, .inl f))) (hz : 0 ≤ z) (hn : z + 6 ≤ n ∧ n ≤ 384) (kk : ∀ y' s', IV G X M y' s' → bnd y y' → Tj G 133 0 P z9 1427 [some (.ref b), some (.ref X), some (.ref M), some (.int (iI z))] [] (mH M s' (yH y' h0))) : Tj G 133 0 P z9 816 [some (.ref b), some (.ref X), some (.ref M), some (.int (iI z))] [] (mH M s (yH y h0)) := by
  obtain ⟨v, y', s', c1, c2, I2, hbd⟩ := q_trips hO hG hg I (f (z + 1).toNat)
  refine tq_aload_n dL_law_816 rfl ?_
  refine tl_arg dL_law_817 dL_law_818 dL_law_819 dL_law_820 dL_law_821 (I.bb hO hr) ⟨by omega, by omega⟩ ⟨by omega, by omega⟩ (by omega) ?_
  refine tl_callV [.int (f (z + 1).toNat)] dL_law_822 rfl I.x rfl rfl rfl (Nat.le_of_ble_eq_true rfl) rfl c1 ?_
  refine tq_aload_n dL_law_825 rfl ?_
  refine tl_arg dL_law_826 dL_law_827 dL_law_828 dL_law_829 dL_law_830 (I2.bb hO hr) ⟨by omega, by omega⟩ ⟨by omega, by omega⟩ (by omega) ?_
  refine tl_callV [.int (f (z + 1).toNat)] dL_law_831 rfl IV.m rfl rfl rfl (Nat.le_of_ble_eq_true rfl) rfl c2 ?_
  refine tl_icmpeq dL_law_834 rfl ?_
  exact kk y' s' I2 hbd
theorem lc_stowing (hO : hOld G h0) (hG : okW G) (hg : okG G) (I : IV G X M y s) (hr : G.2 b = some (.inl (0, n, .inl f))) (hz : 0 ≤ z) (hn : z + 6 ≤ n ∧ n ≤ 384) (kk : ∀ y' s', IV G X M y' s' → bnd y y' → Tj G 133 0 P z9 1427 [some (.ref b), some (.ref X), some (.ref M), some (.int (iI z))] [] (mH M s' (yH y' h0))) : Tj G 133 0 P z9 839 [some (.ref b), some (.ref X), some (.ref M), some (.int (iI z))] [] (mH M s (yH y h0)) := by
  obtain ⟨v, y', s', c1, c2, I2, hbd⟩ := q_stowing hO hG hg I
  refine tq_aload_n dL_law_839 rfl ?_
  refine tl_callV [] dL_law_840 rfl I.x rfl rfl rfl (Nat.le_of_ble_eq_true rfl) rfl c1 ?_
  refine tq_aload_n dL_law_843 rfl ?_
  refine tl_callV [] dL_law_844 rfl IV.m rfl rfl rfl (Nat.le_of_ble_eq_true rfl) rfl c2 ?_
  refine tl_icmpeq dL_law_847 rfl ?_
  exact kk y' s' I2 hbd
theorem lc_meet (hO : hOld G h0) (hG : okW G) (hg : okG G) (I : IV G X M y s) (hr : G.2 b = some (.inl (0, n, .inl f))) (hz : 0 ≤ z) (hn : z + 6 ≤ n ∧ n ≤ 384) (kk : ∀ y' s', IV G X M y' s' → bnd y y' → Tj G 133 0 P z9 1427 [some (.ref b), some (.ref X), some (.ref M), some (.int (iI z))] [] (mH M s' (yH y' h0))) : Tj G 133 0 P z9 852 [some (.ref b), some (.ref X), some (.ref M), some (.int (iI z))] [] (mH M s (yH y h0)) := by
  obtain ⟨v, y', s', c1, c2, I2, hbd⟩ := q_meet hO hG hg I (f (z + 1).toNat) (f (z + 2).toNat)
  refine tq_aload_n dL_law_852 rfl ?_
  refine tl_arg dL_law_853 dL_law_854 dL_law_855 dL_law_856 dL_law_857 (I.bb hO hr) ⟨by omega, by omega⟩ ⟨by omega, by omega⟩ (by omega) ?_
  refine tl_arg dL_law_858 dL_law_859 dL_law_860 dL_law_861 dL_law_862 (I.bb hO hr) ⟨by omega, by omega⟩ ⟨by omega, by omega⟩ (by omega) ?_
  refine tl_callV [.int (f (z + 1).toNat), .int (f (z + 2).toNat)] dL_law_863 rfl I.x rfl rfl rfl (Nat.le_of_ble_eq_true rfl) rfl c1 ?_
  refine tq_aload_n dL_law_866 rfl ?_
  refine tl_arg dL_law_867 dL_law_868 dL_law_869 dL_law_870 dL_law_871 (I2.bb hO hr) ⟨by omega, by omega⟩ ⟨by omega, by omega⟩ (by omega) ?_
  refine tl_arg dL_law_872 dL_law_873 dL_law_874 dL_law_875 dL_law_876 (I2.bb hO hr) ⟨by omega, by omega⟩ ⟨by omega, by omega⟩ (by omega) ?_
  refine tl_callV [.int (f (z + 1).toNat), .int (f (z + 2).toNat)] dL_law_877 rfl IV.m rfl rfl rfl (Nat.le_of_ble_eq_true rfl) rfl c2 ?_
  refine tl_icmpeq dL_law_880 rfl ?_
  exact kk y' s' I2 hbd
theorem lc_mooring (hO : hOld G h0) (hG : okW G) (hg : okG G) (I : IV G X M y s) (hr : G.2 b = some (.inl (0, n, .inl f))) (hz : 0 ≤ z) (hn : z + 6 ≤ n ∧ n ≤ 384) (kk : ∀ y' s', IV G X M y' s' → bnd y y' → Tj G 133 0 P z9 1427 [some (.ref b), some (.ref X), some (.ref M), some (.int (iI z))] [] (mH M s' (yH y' h0))) : Tj G 133 0 P z9 885 [some (.ref b), some (.ref X), some (.ref M), some (.int (iI z))] [] (mH M s (yH y h0)) := by
  obtain ⟨v, y', s', c1, c2, I2, hbd⟩ := q_mooring hO hG hg I (f (z + 1).toNat)
  refine tq_aload_n dL_law_885 rfl ?_
  refine tl_arg dL_law_886 dL_law_887 dL_law_888 dL_law_889 dL_law_890 (I.bb hO hr) ⟨by omega, by omega⟩ ⟨by omega, by omega⟩ (by omega) ?_
  refine tl_callV [.int (f (z + 1).toNat)] dL_law_891 rfl I.x rfl rfl rfl (Nat.le_of_ble_eq_true rfl) rfl c1 ?_
  refine tq_aload_n dL_law_894 rfl ?_
  refine tl_arg dL_law_895 dL_law_896 dL_law_897 dL_law_898 dL_law_899 (I2.bb hO hr) ⟨by omega, by omega⟩ ⟨by omega, by omega⟩ (by omega) ?_
  refine tl_callV [.int (f (z + 1).toNat)] dL_law_900 rfl IV.m rfl rfl rfl (Nat.le_of_ble_eq_true rfl) rfl c2 ?_
  refine tl_icmpeq dL_law_903 rfl ?_
  exact kk y' s' I2 hbd
theorem lc_guests (hO : hOld G h0) (hG : okW G) (hg : okG G) (I : IV G X M y s) (hr : G.2 b = some (.inl (0, n, .inl f))) (hz : 0 ≤ z) (hn : z + 6 ≤ n ∧ n ≤ 384) (kk : ∀ y' s', IV G X M y' s' → bnd y y' → Tj G 133 0 P z9 1427 [some (.ref b), some (.ref X), some (.ref M), some (.int (iI z))] [] (mH M s' (yH y' h0))) : Tj G 133 0 P z9 908 [some (.ref b), some (.ref X), some (.ref M), some (.int (iI z))] [] (mH M s (yH y h0)) := by
  obtain ⟨v, y', s', c1, c2, I2, hbd⟩ := q_guests hO hG hg I (f (z + 1).toNat) (f (z + 2).toNat)
  refine tq_aload_n dL_law_908 rfl ?_
  refine tl_arg dL_law_909 dL_law_910 dL_law_911 dL_law_912 dL_law_913 (I.bb hO hr) ⟨by omega, by omega⟩ ⟨by omega, by omega⟩ (by omega) ?_
  refine tl_arg dL_law_914 dL_law_915 dL_law_916 dL_law_917 dL_law_918 (I.bb hO hr) ⟨by omega, by omega⟩ ⟨by omega, by omega⟩ (by omega) ?_
  refine tl_callV [.int (f (z + 1).toNat), .int (f (z + 2).toNat)] dL_law_919 rfl I.x rfl rfl rfl (Nat.le_of_ble_eq_true rfl) rfl c1 ?_
  refine tq_aload_n dL_law_922 rfl ?_
  refine tl_arg dL_law_923 dL_law_924 dL_law_925 dL_law_926 dL_law_927 (I2.bb hO hr) ⟨by omega, by omega⟩ ⟨by omega, by omega⟩ (by omega) ?_
  refine tl_arg dL_law_928 dL_law_929 dL_law_930 dL_law_931 dL_law_932 (I2.bb hO hr) ⟨by omega, by omega⟩ ⟨by omega, by omega⟩ (by omega) ?_
  refine tl_callV [.int (f (z + 1).toNat), .int (f (z + 2).toNat)] dL_law_933 rfl IV.m rfl rfl rfl (Nat.le_of_ble_eq_true rfl) rfl c2 ?_
  refine tl_icmpeq dL_law_936 rfl ?_
  exact kk y' s' I2 hbd
theorem lc_singe (hO : hOld G h0) (hG : okW G) (hg : okG G) (I : IV G X M y s) (hr : G.2 b = some (.inl (0, n, .inl f))) (hz : 0 ≤ z) (hn : z + 6 ≤ n ∧ n ≤ 384) (kk : ∀ y' s', IV G X M y' s' → bnd y y' → Tj G 133 0 P z9 1427 [some (.ref b), some (.ref X), some (.ref M), some (.int (iI z))] [] (mH M s' (yH y' h0))) : Tj G 133 0 P z9 941 [some (.ref b), some (.ref X), some (.ref M), some (.int (iI z))] [] (mH M s (yH y h0)) := by
  obtain ⟨v, y', s', c1, c2, I2, hbd⟩ := q_singe hO hG hg I (f (z + 1).toNat)
  refine tq_aload_n dL_law_941 rfl ?_
  refine tl_arg dL_law_942 dL_law_943 dL_law_944 dL_law_945 dL_law_946 (I.bb hO hr) ⟨by omega, by omega⟩ ⟨by omega, by omega⟩ (by omega) ?_
  refine tl_callV [.int (f (z + 1).toNat)] dL_law_947 rfl I.x rfl rfl rfl (Nat.le_of_ble_eq_true rfl) rfl c1 ?_
  refine tq_aload_n dL_law_950 rfl ?_
  refine tl_arg dL_law_951 dL_law_952 dL_law_953 dL_law_954 dL_law_955 (I2.bb hO hr) ⟨by omega, by omega⟩ ⟨by omega, by omega⟩ (by omega) ?_
  refine tl_callV [.int (f (z + 1).toNat)] dL_law_956 rfl IV.m rfl rfl rfl (Nat.le_of_ble_eq_true rfl) rfl c2 ?_
  refine tl_icmpeq dL_law_959 rfl ?_
  exact kk y' s' I2 hbd
theorem lc_odds (hO : hOld G h0) (hG : okW G) (hg : okG G) (I : IV G X M y s) (hr : G.2 b = some (.inl (0, n, .inl f))) (hz : 0 ≤ z) (hn : z + 6 ≤ n ∧ n ≤ 384) (kk : ∀ y' s', IV G X M y' s' → bnd y y' → Tj G 133 0 P z9 1427 [some (.ref b), some (.ref X), some (.ref M), some (.int (iI z))] [] (mH M s' (yH y' h0))) : Tj G 133 0 P z9 964 [some (.ref b), some (.ref X), some (.ref M), some (.int (iI z))] [] (mH M s (yH y h0)) := by
  obtain ⟨v, y', s', c1, c2, I2, hbd⟩ := q_odds hO hG hg I (f (z + 1).toNat) (f (z + 2).toNat) (f (z + 3).toNat)
  refine tq_aload_n dL_law_964 rfl ?_
  refine tl_arg dL_law_965 dL_law_966 dL_law_967 dL_law_968 dL_law_969 (I.bb hO hr) ⟨by omega, by omega⟩ ⟨by omega, by omega⟩ (by omega) ?_
  refine tl_arg dL_law_970 dL_law_971 dL_law_972 dL_law_973 dL_law_974 (I.bb hO hr) ⟨by omega, by omega⟩ ⟨by omega, by omega⟩ (by omega) ?_
  refine tl_arg dL_law_975 dL_law_976 dL_law_977 dL_law_978 dL_law_979 (I.bb hO hr) ⟨by omega, by omega⟩ ⟨by omega, by omega⟩ (by omega) ?_
  refine tl_callV [.int (f (z + 1).toNat), .int (f (z + 2).toNat), .int (f (z + 3).toNat)] dL_law_980 rfl I.x rfl rfl rfl (Nat.le_of_ble_eq_true rfl) rfl c1 ?_
  refine tq_aload_n dL_law_983 rfl ?_
  refine tl_arg dL_law_984 dL_law_985 dL_law_986 dL_law_987 dL_law_988 (I2.bb hO hr) ⟨by omega, by omega⟩ ⟨by omega, by omega⟩ (by omega) ?_
  refine tl_arg dL_law_989 dL_law_990 dL_law_991 dL_law_992 dL_law_993 (I2.bb hO hr) ⟨by omega, by omega⟩ ⟨by omega, by omega⟩ (by omega) ?_
  refine tl_arg dL_law_994 dL_law_995 dL_law_996 dL_law_997 dL_law_998 (I2.bb hO hr) ⟨by omega, by omega⟩ ⟨by omega, by omega⟩ (by omega) ?_
  refine tl_callV [.int (f (z + 1).toNat), .int (f (z + 2).toNat), .int (f (z + 3).toNat)] dL_law_999 rfl IV.m rfl rfl rfl (Nat.le_of_ble_eq_true rfl) rfl c2 ?_
  refine tl_icmpeq dL_law_1002 rfl ?_
  exact kk y' s' I2 hbd
theorem lc_over (hO : hOld G h0) (hG : okW G) (hg : okG G) (I : IV G X M y s) (hr : G.2 b = some (.inl (0, n, .inl f))) (hz : 0 ≤ z) (hn : z + 6 ≤ n ∧ n ≤ 384) (kk : ∀ y' s', IV G X M y' s' → bnd y y' → Tj G 133 0 P z9 1427 [some (.ref b), some (.ref X), some (.ref M), some (.int (iI z))] [] (mH M s' (yH y' h0))) : Tj G 133 0 P z9 1007 [some (.ref b), some (.ref X), some (.ref M), some (.int (iI z))] [] (mH M s (yH y h0)) := by
  obtain ⟨v, y', s', c1, c2, I2, hbd⟩ := q_over hO hG hg I
  refine tq_aload_n dL_law_1007 rfl ?_
  refine tl_callV [] dL_law_1008 rfl I.x rfl rfl rfl (Nat.le_of_ble_eq_true rfl) rfl c1 ?_
  refine tq_aload_n dL_law_1011 rfl ?_
  refine tl_callV [] dL_law_1012 rfl IV.m rfl rfl rfl (Nat.le_of_ble_eq_true rfl) rfl c2 ?_
  refine tl_icmpeq dL_law_1015 rfl ?_
  exact kk y' s' I2 hbd
theorem lc_left (hO : hOld G h0) (hG : okW G) (hg : okG G) (I : IV G X M y s) (hr : G.2 b = some (.inl (0, n, .inl f))) (hz : 0 ≤ z) (hn : z + 6 ≤ n ∧ n ≤ 384) (kk : ∀ y' s', IV G X M y' s' → bnd y y' → Tj G 133 0 P z9 1427 [some (.ref b), some (.ref X), some (.ref M), some (.int (iI z))] [] (mH M s' (yH y' h0))) : Tj G 133 0 P z9 1020 [some (.ref b), some (.ref X), some (.ref M), some (.int (iI z))] [] (mH M s (yH y h0)) := by
  obtain ⟨v, y', s', c1, c2, I2, hbd⟩ := q_left hO hG hg I
  refine tq_aload_n dL_law_1020 rfl ?_
  refine tl_callV [] dL_law_1021 rfl I.x rfl rfl rfl (Nat.le_of_ble_eq_true rfl) rfl c1 ?_
  refine tq_aload_n dL_law_1024 rfl ?_
  refine tl_callV [] dL_law_1025 rfl IV.m rfl rfl rfl (Nat.le_of_ble_eq_true rfl) rfl c2 ?_
  refine tl_icmpeq dL_law_1028 rfl ?_
  exact kk y' s' I2 hbd
theorem lc_pulled (hO : hOld G h0) (hG : okW G) (hg : okG G) (I : IV G X M y s) (hr : G.2 b = some (.inl (0, n, .inl f))) (hz : 0 ≤ z) (hn : z + 6 ≤ n ∧ n ≤ 384) (kk : ∀ y' s', IV G X M y' s' → bnd y y' → Tj G 133 0 P z9 1427 [some (.ref b), some (.ref X), some (.ref M), some (.int (iI z))] [] (mH M s' (yH y' h0))) : Tj G 133 0 P z9 1033 [some (.ref b), some (.ref X), some (.ref M), some (.int (iI z))] [] (mH M s (yH y h0)) := by
  obtain ⟨v, y', s', c1, c2, I2, hbd⟩ := q_pulled hO hG hg I
  refine tq_aload_n dL_law_1033 rfl ?_
  refine tl_callV [] dL_law_1034 rfl I.x rfl rfl rfl (Nat.le_of_ble_eq_true rfl) rfl c1 ?_
  refine tq_aload_n dL_law_1037 rfl ?_
  refine tl_callV [] dL_law_1038 rfl IV.m rfl rfl rfl (Nat.le_of_ble_eq_true rfl) rfl c2 ?_
  refine tl_icmpeq dL_law_1041 rfl ?_
  exact kk y' s' I2 hbd
theorem lc_hottest (hO : hOld G h0) (hG : okW G) (hg : okG G) (I : IV G X M y s) (hr : G.2 b = some (.inl (0, n, .inl f))) (hz : 0 ≤ z) (hn : z + 6 ≤ n ∧ n ≤ 384) (kk : ∀ y' s', IV G X M y' s' → bnd y y' → Tj G 133 0 P z9 1427 [some (.ref b), some (.ref X), some (.ref M), some (.int (iI z))] [] (mH M s' (yH y' h0))) : Tj G 133 0 P z9 1046 [some (.ref b), some (.ref X), some (.ref M), some (.int (iI z))] [] (mH M s (yH y h0)) := by
  obtain ⟨v, y', s', c1, c2, I2, hbd⟩ := q_hottest hO hG hg I
  refine tq_aload_n dL_law_1046 rfl ?_
  refine tl_callV [] dL_law_1047 rfl I.x rfl rfl rfl (Nat.le_of_ble_eq_true rfl) rfl c1 ?_
  refine tq_aload_n dL_law_1050 rfl ?_
  refine tl_callV [] dL_law_1051 rfl IV.m rfl rfl rfl (Nat.le_of_ble_eq_true rfl) rfl c2 ?_
  refine tl_icmpeq dL_law_1054 rfl ?_
  exact kk y' s' I2 hbd
theorem lc_law (hO : hOld G h0) (hG : okW G) (hg : okG G) (I : IV G X M y s) (hr : G.2 b = some (.inl (0, n, .inl f))) (hz : 0 ≤ z) (hn : z + 6 ≤ n ∧ n ≤ 384) (kk : ∀ y' s', IV G X M y' s' → bnd y y' → Tj G 133 0 P z9 1427 [some (.ref b), some (.ref X), some (.ref M), some (.int (iI z))] [] (mH M s' (yH y' h0))) : Tj G 133 0 P z9 1059 [some (.ref b), some (.ref X), some (.ref M), some (.int (iI z))] [] (mH M s (yH y h0)) := by
  obtain ⟨v, y', s', c1, c2, I2, hbd⟩ := q_law hO hG hg I (f (z + 1).toNat)
  refine tq_aload_n dL_law_1059 rfl ?_
  refine tl_arg dL_law_1060 dL_law_1061 dL_law_1062 dL_law_1063 dL_law_1064 (I.bb hO hr) ⟨by omega, by omega⟩ ⟨by omega, by omega⟩ (by omega) ?_
  refine tl_callV [.int (f (z + 1).toNat)] dL_law_1065 rfl I.x rfl rfl rfl (Nat.le_of_ble_eq_true rfl) rfl c1 ?_
  refine tq_aload_n dL_law_1068 rfl ?_
  refine tl_arg dL_law_1069 dL_law_1070 dL_law_1071 dL_law_1072 dL_law_1073 (I2.bb hO hr) ⟨by omega, by omega⟩ ⟨by omega, by omega⟩ (by omega) ?_
  refine tl_callV [.int (f (z + 1).toNat)] dL_law_1074 rfl IV.m rfl rfl rfl (Nat.le_of_ble_eq_true rfl) rfl c2 ?_
  refine tl_icmpeq dL_law_1077 rfl ?_
  exact kk y' s' I2 hbd
theorem lc_lies (hO : hOld G h0) (hG : okW G) (hg : okG G) (I : IV G X M y s) (hr : G.2 b = some (.inl (0, n, .inl f))) (hz : 0 ≤ z) (hn : z + 6 ≤ n ∧ n ≤ 384) (kk : ∀ y' s', IV G X M y' s' → bnd y y' → Tj G 133 0 P z9 1427 [some (.ref b), some (.ref X), some (.ref M), some (.int (iI z))] [] (mH M s' (yH y' h0))) : Tj G 133 0 P z9 1082 [some (.ref b), some (.ref X), some (.ref M), some (.int (iI z))] [] (mH M s (yH y h0)) := by
  obtain ⟨v, y', s', c1, c2, I2, hbd⟩ := q_lies hO hG hg I (f (z + 1).toNat)
  refine tq_aload_n dL_law_1082 rfl ?_
  refine tl_arg dL_law_1083 dL_law_1084 dL_law_1085 dL_law_1086 dL_law_1087 (I.bb hO hr) ⟨by omega, by omega⟩ ⟨by omega, by omega⟩ (by omega) ?_
  refine tl_callV [.int (f (z + 1).toNat)] dL_law_1088 rfl I.x rfl rfl rfl (Nat.le_of_ble_eq_true rfl) rfl c1 ?_
  refine tq_aload_n dL_law_1091 rfl ?_
  refine tl_arg dL_law_1092 dL_law_1093 dL_law_1094 dL_law_1095 dL_law_1096 (I2.bb hO hr) ⟨by omega, by omega⟩ ⟨by omega, by omega⟩ (by omega) ?_
  refine tl_callV [.int (f (z + 1).toNat)] dL_law_1097 rfl IV.m rfl rfl rfl (Nat.le_of_ble_eq_true rfl) rfl c2 ?_
  refine tl_icmpeq dL_law_1100 rfl ?_
  exact kk y' s' I2 hbd
theorem lc_passed (hO : hOld G h0) (hG : okW G) (hg : okG G) (I : IV G X M y s) (hr : G.2 b = some (.inl (0, n, .inl f))) (hz : 0 ≤ z) (hn : z + 6 ≤ n ∧ n ≤ 384) (kk : ∀ y' s', IV G X M y' s' → bnd y y' → Tj G 133 0 P z9 1427 [some (.ref b), some (.ref X), some (.ref M), some (.int (iI z))] [] (mH M s' (yH y' h0))) : Tj G 133 0 P z9 1105 [some (.ref b), some (.ref X), some (.ref M), some (.int (iI z))] [] (mH M s (yH y h0)) := by
  by_cases hx : f (z + 3).toNat = 0
  · obtain ⟨v, y', s', c1, c2, I2, hbd⟩ := q_passed hO hG hg I (f (z + 1).toNat) (f (z + 2).toNat) 0 (Or.inl rfl)
    refine tq_aload_n dL_law_1105 rfl ?_
    refine tl_arg dL_law_1106 dL_law_1107 dL_law_1108 dL_law_1109 dL_law_1110 (I.bb hO hr) ⟨by omega, by omega⟩ ⟨by omega, by omega⟩ (by omega) ?_
    refine tl_arg dL_law_1111 dL_law_1112 dL_law_1113 dL_law_1114 dL_law_1115 (I.bb hO hr) ⟨by omega, by omega⟩ ⟨by omega, by omega⟩ (by omega) ?_
    refine tl_arg dL_law_1116 dL_law_1117 dL_law_1118 dL_law_1119 dL_law_1120 (I.bb hO hr) ⟨by omega, by omega⟩ ⟨by omega, by omega⟩ (by omega) ?_
    refine tl_ifeq1 dL_law_1121 rfl hx ?_
    refine tq_iconst dL_law_1128 (v := 0) rfl ?_
    refine tl_callV [.int (f (z + 1).toNat), .int (f (z + 2).toNat), .int 0] dL_law_1129 rfl I.x rfl rfl rfl (Nat.le_of_ble_eq_true rfl) rfl c1 ?_
    refine tq_aload_n dL_law_1132 rfl ?_
    refine tl_arg dL_law_1133 dL_law_1134 dL_law_1135 dL_law_1136 dL_law_1137 (I2.bb hO hr) ⟨by omega, by omega⟩ ⟨by omega, by omega⟩ (by omega) ?_
    refine tl_arg dL_law_1138 dL_law_1139 dL_law_1140 dL_law_1141 dL_law_1142 (I2.bb hO hr) ⟨by omega, by omega⟩ ⟨by omega, by omega⟩ (by omega) ?_
    refine tl_arg dL_law_1143 dL_law_1144 dL_law_1145 dL_law_1146 dL_law_1147 (I2.bb hO hr) ⟨by omega, by omega⟩ ⟨by omega, by omega⟩ (by omega) ?_
    refine tl_ifeq1 dL_law_1148 rfl hx ?_
    refine tq_iconst dL_law_1155 (v := 0) rfl ?_
    refine tl_callV [.int (f (z + 1).toNat), .int (f (z + 2).toNat), .int 0] dL_law_1156 rfl IV.m rfl rfl rfl (Nat.le_of_ble_eq_true rfl) rfl c2 ?_
    refine tl_icmpeq dL_law_1159 rfl ?_
    exact kk y' s' I2 hbd
  · obtain ⟨v, y', s', c1, c2, I2, hbd⟩ := q_passed hO hG hg I (f (z + 1).toNat) (f (z + 2).toNat) 1 (Or.inr rfl)
    refine tq_aload_n dL_law_1105 rfl ?_
    refine tl_arg dL_law_1106 dL_law_1107 dL_law_1108 dL_law_1109 dL_law_1110 (I.bb hO hr) ⟨by omega, by omega⟩ ⟨by omega, by omega⟩ (by omega) ?_
    refine tl_arg dL_law_1111 dL_law_1112 dL_law_1113 dL_law_1114 dL_law_1115 (I.bb hO hr) ⟨by omega, by omega⟩ ⟨by omega, by omega⟩ (by omega) ?_
    refine tl_arg dL_law_1116 dL_law_1117 dL_law_1118 dL_law_1119 dL_law_1120 (I.bb hO hr) ⟨by omega, by omega⟩ ⟨by omega, by omega⟩ (by omega) ?_
    refine tl_ifeq0 dL_law_1121 rfl hx ?_
    refine tq_iconst dL_law_1124 (v := 1) rfl ?_
    refine tq_goto dL_law_1125 rfl ?_
    refine tl_callV [.int (f (z + 1).toNat), .int (f (z + 2).toNat), .int 1] dL_law_1129 rfl I.x rfl rfl rfl (Nat.le_of_ble_eq_true rfl) rfl c1 ?_
    refine tq_aload_n dL_law_1132 rfl ?_
    refine tl_arg dL_law_1133 dL_law_1134 dL_law_1135 dL_law_1136 dL_law_1137 (I2.bb hO hr) ⟨by omega, by omega⟩ ⟨by omega, by omega⟩ (by omega) ?_
    refine tl_arg dL_law_1138 dL_law_1139 dL_law_1140 dL_law_1141 dL_law_1142 (I2.bb hO hr) ⟨by omega, by omega⟩ ⟨by omega, by omega⟩ (by omega) ?_
    refine tl_arg dL_law_1143 dL_law_1144 dL_law_1145 dL_law_1146 dL_law_1147 (I2.bb hO hr) ⟨by omega, by omega⟩ ⟨by omega, by omega⟩ (by omega) ?_
    refine tl_ifeq0 dL_law_1148 rfl hx ?_
    refine tq_iconst dL_law_1151 (v := 1) rfl ?_
    refine tq_goto dL_law_1152 rfl ?_
    refine tl_callV [.int (f (z + 1).toNat), .int (f (z + 2).toNat), .int 1] dL_law_1156 rfl IV.m rfl rfl rfl (Nat.le_of_ble_eq_true rfl) rfl c2 ?_
    refine tl_icmpeq dL_law_1159 rfl ?_
    exact kk y' s' I2 hbd
theorem lc_felt (hO : hOld G h0) (hG : okW G) (hg : okG G) (I : IV G X M y s) (hr : G.2 b = some (.inl (0, n, .inl f))) (hz : 0 ≤ z) (hn : z + 6 ≤ n ∧ n ≤ 384) (kk : ∀ y' s', IV G X M y' s' → bnd y y' → Tj G 133 0 P z9 1427 [some (.ref b), some (.ref X), some (.ref M), some (.int (iI z))] [] (mH M s' (yH y' h0))) : Tj G 133 0 P z9 1164 [some (.ref b), some (.ref X), some (.ref M), some (.int (iI z))] [] (mH M s (yH y h0)) := by
  by_cases hx : f (z + 3).toNat = 0
  · obtain ⟨v, y', s', c1, c2, I2, hbd⟩ := q_felt hO hG hg I (f (z + 1).toNat) (f (z + 2).toNat) 0 (Or.inl rfl)
    refine tq_aload_n dL_law_1164 rfl ?_
    refine tl_arg dL_law_1165 dL_law_1166 dL_law_1167 dL_law_1168 dL_law_1169 (I.bb hO hr) ⟨by omega, by omega⟩ ⟨by omega, by omega⟩ (by omega) ?_
    refine tl_arg dL_law_1170 dL_law_1171 dL_law_1172 dL_law_1173 dL_law_1174 (I.bb hO hr) ⟨by omega, by omega⟩ ⟨by omega, by omega⟩ (by omega) ?_
    refine tl_arg dL_law_1175 dL_law_1176 dL_law_1177 dL_law_1178 dL_law_1179 (I.bb hO hr) ⟨by omega, by omega⟩ ⟨by omega, by omega⟩ (by omega) ?_
    refine tl_ifeq1 dL_law_1180 rfl hx ?_
    refine tq_iconst dL_law_1187 (v := 0) rfl ?_
    refine tl_callV [.int (f (z + 1).toNat), .int (f (z + 2).toNat), .int 0] dL_law_1188 rfl I.x rfl rfl rfl (Nat.le_of_ble_eq_true rfl) rfl c1 ?_
    refine tq_aload_n dL_law_1191 rfl ?_
    refine tl_arg dL_law_1192 dL_law_1193 dL_law_1194 dL_law_1195 dL_law_1196 (I2.bb hO hr) ⟨by omega, by omega⟩ ⟨by omega, by omega⟩ (by omega) ?_
    refine tl_arg dL_law_1197 dL_law_1198 dL_law_1199 dL_law_1200 dL_law_1201 (I2.bb hO hr) ⟨by omega, by omega⟩ ⟨by omega, by omega⟩ (by omega) ?_
    refine tl_arg dL_law_1202 dL_law_1203 dL_law_1204 dL_law_1205 dL_law_1206 (I2.bb hO hr) ⟨by omega, by omega⟩ ⟨by omega, by omega⟩ (by omega) ?_
    refine tl_ifeq1 dL_law_1207 rfl hx ?_
    refine tq_iconst dL_law_1214 (v := 0) rfl ?_
    refine tl_callV [.int (f (z + 1).toNat), .int (f (z + 2).toNat), .int 0] dL_law_1215 rfl IV.m rfl rfl rfl (Nat.le_of_ble_eq_true rfl) rfl c2 ?_
    refine tl_icmpeq dL_law_1218 rfl ?_
    exact kk y' s' I2 hbd
  · obtain ⟨v, y', s', c1, c2, I2, hbd⟩ := q_felt hO hG hg I (f (z + 1).toNat) (f (z + 2).toNat) 1 (Or.inr rfl)
    refine tq_aload_n dL_law_1164 rfl ?_
    refine tl_arg dL_law_1165 dL_law_1166 dL_law_1167 dL_law_1168 dL_law_1169 (I.bb hO hr) ⟨by omega, by omega⟩ ⟨by omega, by omega⟩ (by omega) ?_
    refine tl_arg dL_law_1170 dL_law_1171 dL_law_1172 dL_law_1173 dL_law_1174 (I.bb hO hr) ⟨by omega, by omega⟩ ⟨by omega, by omega⟩ (by omega) ?_
    refine tl_arg dL_law_1175 dL_law_1176 dL_law_1177 dL_law_1178 dL_law_1179 (I.bb hO hr) ⟨by omega, by omega⟩ ⟨by omega, by omega⟩ (by omega) ?_
    refine tl_ifeq0 dL_law_1180 rfl hx ?_
    refine tq_iconst dL_law_1183 (v := 1) rfl ?_
    refine tq_goto dL_law_1184 rfl ?_
    refine tl_callV [.int (f (z + 1).toNat), .int (f (z + 2).toNat), .int 1] dL_law_1188 rfl I.x rfl rfl rfl (Nat.le_of_ble_eq_true rfl) rfl c1 ?_
    refine tq_aload_n dL_law_1191 rfl ?_
    refine tl_arg dL_law_1192 dL_law_1193 dL_law_1194 dL_law_1195 dL_law_1196 (I2.bb hO hr) ⟨by omega, by omega⟩ ⟨by omega, by omega⟩ (by omega) ?_
    refine tl_arg dL_law_1197 dL_law_1198 dL_law_1199 dL_law_1200 dL_law_1201 (I2.bb hO hr) ⟨by omega, by omega⟩ ⟨by omega, by omega⟩ (by omega) ?_
    refine tl_arg dL_law_1202 dL_law_1203 dL_law_1204 dL_law_1205 dL_law_1206 (I2.bb hO hr) ⟨by omega, by omega⟩ ⟨by omega, by omega⟩ (by omega) ?_
    refine tl_ifeq0 dL_law_1207 rfl hx ?_
    refine tq_iconst dL_law_1210 (v := 1) rfl ?_
    refine tq_goto dL_law_1211 rfl ?_
    refine tl_callV [.int (f (z + 1).toNat), .int (f (z + 2).toNat), .int 1] dL_law_1215 rfl IV.m rfl rfl rfl (Nat.le_of_ble_eq_true rfl) rfl c2 ?_
    refine tl_icmpeq dL_law_1218 rfl ?_
    exact kk y' s' I2 hbd
theorem lc_untell (hO : hOld G h0) (hG : okW G) (hg : okG G) (I : IV G X M y s) (hr : G.2 b = some (.inl (0, n, .inl f))) (hz : 0 ≤ z) (hn : z + 6 ≤ n ∧ n ≤ 384) (kk : ∀ y' s', IV G X M y' s' → bnd y y' → Tj G 133 0 P z9 1427 [some (.ref b), some (.ref X), some (.ref M), some (.int (iI z))] [] (mH M s' (yH y' h0))) : Tj G 133 0 P z9 1223 [some (.ref b), some (.ref X), some (.ref M), some (.int (iI z))] [] (mH M s (yH y h0)) := by
  obtain ⟨v, y', s', c1, c2, I2, hbd⟩ := q_untell hO hG hg I (f (z + 1).toNat)
  refine tq_aload_n dL_law_1223 rfl ?_
  refine tl_arg dL_law_1224 dL_law_1225 dL_law_1226 dL_law_1227 dL_law_1228 (I.bb hO hr) ⟨by omega, by omega⟩ ⟨by omega, by omega⟩ (by omega) ?_
  refine tl_callV [.int (f (z + 1).toNat)] dL_law_1229 rfl I.x rfl rfl rfl (Nat.le_of_ble_eq_true rfl) rfl c1 ?_
  refine tq_aload_n dL_law_1232 rfl ?_
  refine tl_arg dL_law_1233 dL_law_1234 dL_law_1235 dL_law_1236 dL_law_1237 (I2.bb hO hr) ⟨by omega, by omega⟩ ⟨by omega, by omega⟩ (by omega) ?_
  refine tl_callV [.int (f (z + 1).toNat)] dL_law_1238 rfl IV.m rfl rfl rfl (Nat.le_of_ble_eq_true rfl) rfl c2 ?_
  refine tl_icmpeq dL_law_1241 rfl ?_
  exact kk y' s' I2 hbd
theorem lc_later (hO : hOld G h0) (hG : okW G) (hg : okG G) (I : IV G X M y s) (hr : G.2 b = some (.inl (0, n, .inl f))) (hz : 0 ≤ z) (hn : z + 6 ≤ n ∧ n ≤ 384) (kk : ∀ y' s', IV G X M y' s' → bnd y y' → Tj G 133 0 P z9 1427 [some (.ref b), some (.ref X), some (.ref M), some (.int (iI z))] [] (mH M s' (yH y' h0))) : Tj G 133 0 P z9 1246 [some (.ref b), some (.ref X), some (.ref M), some (.int (iI z))] [] (mH M s (yH y h0)) := by
  obtain ⟨v, y', s', c1, c2, I2, hbd⟩ := q_later hO hG hg I (f (z + 1).toNat)
  refine tq_aload_n dL_law_1246 rfl ?_
  refine tl_arg dL_law_1247 dL_law_1248 dL_law_1249 dL_law_1250 dL_law_1251 (I.bb hO hr) ⟨by omega, by omega⟩ ⟨by omega, by omega⟩ (by omega) ?_
  refine tl_callV [.int (f (z + 1).toNat)] dL_law_1252 rfl I.x rfl rfl rfl (Nat.le_of_ble_eq_true rfl) rfl c1 ?_
  refine tq_aload_n dL_law_1255 rfl ?_
  refine tl_arg dL_law_1256 dL_law_1257 dL_law_1258 dL_law_1259 dL_law_1260 (I2.bb hO hr) ⟨by omega, by omega⟩ ⟨by omega, by omega⟩ (by omega) ?_
  refine tl_callV [.int (f (z + 1).toNat)] dL_law_1261 rfl IV.m rfl rfl rfl (Nat.le_of_ble_eq_true rfl) rfl c2 ?_
  refine tl_icmpeq dL_law_1264 rfl ?_
  exact kk y' s' I2 hbd
theorem lc_fits (hO : hOld G h0) (hG : okW G) (hg : okG G) (I : IV G X M y s) (hr : G.2 b = some (.inl (0, n, .inl f))) (hz : 0 ≤ z) (hn : z + 6 ≤ n ∧ n ≤ 384) (kk : ∀ y' s', IV G X M y' s' → bnd y y' → Tj G 133 0 P z9 1427 [some (.ref b), some (.ref X), some (.ref M), some (.int (iI z))] [] (mH M s' (yH y' h0))) : Tj G 133 0 P z9 1269 [some (.ref b), some (.ref X), some (.ref M), some (.int (iI z))] [] (mH M s (yH y h0)) := by
  obtain ⟨v, y', s', c1, c2, I2, hbd⟩ := q_fits hO hG hg I (f (z + 1).toNat)
  refine tq_aload_n dL_law_1269 rfl ?_
  refine tl_arg dL_law_1270 dL_law_1271 dL_law_1272 dL_law_1273 dL_law_1274 (I.bb hO hr) ⟨by omega, by omega⟩ ⟨by omega, by omega⟩ (by omega) ?_
  refine tl_callV [.int (f (z + 1).toNat)] dL_law_1275 rfl I.x rfl rfl rfl (Nat.le_of_ble_eq_true rfl) rfl c1 ?_
  refine tq_aload_n dL_law_1278 rfl ?_
  refine tl_arg dL_law_1279 dL_law_1280 dL_law_1281 dL_law_1282 dL_law_1283 (I2.bb hO hr) ⟨by omega, by omega⟩ ⟨by omega, by omega⟩ (by omega) ?_
  refine tl_callV [.int (f (z + 1).toNat)] dL_law_1284 rfl IV.m rfl rfl rfl (Nat.le_of_ble_eq_true rfl) rfl c2 ?_
  refine tl_icmpeq dL_law_1287 rfl ?_
  exact kk y' s' I2 hbd
theorem lc_sure (hO : hOld G h0) (hG : okW G) (hg : okG G) (I : IV G X M y s) (hr : G.2 b = some (.inl (0, n, .inl f))) (hz : 0 ≤ z) (hn : z + 6 ≤ n ∧ n ≤ 384) (kk : ∀ y' s', IV G X M y' s' → bnd y y' → Tj G 133 0 P z9 1427 [some (.ref b), some (.ref X), some (.ref M), some (.int (iI z))] [] (mH M s' (yH y' h0))) : Tj G 133 0 P z9 1292 [some (.ref b), some (.ref X), some (.ref M), some (.int (iI z))] [] (mH M s (yH y h0)) := by
  obtain ⟨v, y', s', c1, c2, I2, hbd⟩ := q_sure hO hG hg I (f (z + 1).toNat) (f (z + 2).toNat)
  refine tq_aload_n dL_law_1292 rfl ?_
  refine tl_arg dL_law_1293 dL_law_1294 dL_law_1295 dL_law_1296 dL_law_1297 (I.bb hO hr) ⟨by omega, by omega⟩ ⟨by omega, by omega⟩ (by omega) ?_
  refine tl_arg dL_law_1298 dL_law_1299 dL_law_1300 dL_law_1301 dL_law_1302 (I.bb hO hr) ⟨by omega, by omega⟩ ⟨by omega, by omega⟩ (by omega) ?_
  refine tl_callV [.int (f (z + 1).toNat), .int (f (z + 2).toNat)] dL_law_1303 rfl I.x rfl rfl rfl (Nat.le_of_ble_eq_true rfl) rfl c1 ?_
  refine tq_aload_n dL_law_1306 rfl ?_
  refine tl_arg dL_law_1307 dL_law_1308 dL_law_1309 dL_law_1310 dL_law_1311 (I2.bb hO hr) ⟨by omega, by omega⟩ ⟨by omega, by omega⟩ (by omega) ?_
  refine tl_arg dL_law_1312 dL_law_1313 dL_law_1314 dL_law_1315 dL_law_1316 (I2.bb hO hr) ⟨by omega, by omega⟩ ⟨by omega, by omega⟩ (by omega) ?_
  refine tl_callV [.int (f (z + 1).toNat), .int (f (z + 2).toNat)] dL_law_1317 rfl IV.m rfl rfl rfl (Nat.le_of_ble_eq_true rfl) rfl c2 ?_
  refine tl_icmpeq dL_law_1320 rfl ?_
  exact kk y' s' I2 hbd
theorem lc_ask (hO : hOld G h0) (hG : okW G) (hg : okG G) (I : IV G X M y s) (hr : G.2 b = some (.inl (0, n, .inl f))) (hz : 0 ≤ z) (hn : z + 6 ≤ n ∧ n ≤ 384) (kk : ∀ y' s', IV G X M y' s' → bnd y y' → Tj G 133 0 P z9 1427 [some (.ref b), some (.ref X), some (.ref M), some (.int (iI z))] [] (mH M s' (yH y' h0))) : Tj G 133 0 P z9 1325 [some (.ref b), some (.ref X), some (.ref M), some (.int (iI z))] [] (mH M s (yH y h0)) := by
  obtain ⟨v, y', s', c1, c2, I2, hbd⟩ := q_ask hO hG hg I (f (z + 1).toNat) (f (z + 2).toNat)
  refine tq_aload_n dL_law_1325 rfl ?_
  refine tl_arg dL_law_1326 dL_law_1327 dL_law_1328 dL_law_1329 dL_law_1330 (I.bb hO hr) ⟨by omega, by omega⟩ ⟨by omega, by omega⟩ (by omega) ?_
  refine tl_arg dL_law_1331 dL_law_1332 dL_law_1333 dL_law_1334 dL_law_1335 (I.bb hO hr) ⟨by omega, by omega⟩ ⟨by omega, by omega⟩ (by omega) ?_
  refine tl_callV [.int (f (z + 1).toNat), .int (f (z + 2).toNat)] dL_law_1336 rfl I.x rfl rfl rfl (Nat.le_of_ble_eq_true rfl) rfl c1 ?_
  refine tq_aload_n dL_law_1339 rfl ?_
  refine tl_arg dL_law_1340 dL_law_1341 dL_law_1342 dL_law_1343 dL_law_1344 (I2.bb hO hr) ⟨by omega, by omega⟩ ⟨by omega, by omega⟩ (by omega) ?_
  refine tl_arg dL_law_1345 dL_law_1346 dL_law_1347 dL_law_1348 dL_law_1349 (I2.bb hO hr) ⟨by omega, by omega⟩ ⟨by omega, by omega⟩ (by omega) ?_
  refine tl_callV [.int (f (z + 1).toNat), .int (f (z + 2).toNat)] dL_law_1350 rfl IV.m rfl rfl rfl (Nat.le_of_ble_eq_true rfl) rfl c2 ?_
  refine tl_icmpeq dL_law_1353 rfl ?_
  exact kk y' s' I2 hbd
theorem lc_image (hO : hOld G h0) (hG : okW G) (hg : okG G) (I : IV G X M y s) (hr : G.2 b = some (.inl (0, n, .inl f))) (hz : 0 ≤ z) (hn : z + 6 ≤ n ∧ n ≤ 384) (kk : ∀ y' s', IV G X M y' s' → bnd y y' → Tj G 133 0 P z9 1427 [some (.ref b), some (.ref X), some (.ref M), some (.int (iI z))] [] (mH M s' (yH y' h0))) : Tj G 133 0 P z9 1358 [some (.ref b), some (.ref X), some (.ref M), some (.int (iI z))] [] (mH M s (yH y h0)) := by
  obtain ⟨v, y', s', c1, c2, I2, hbd⟩ := q_image hO hG hg I (f (z + 1).toNat)
  refine tq_aload_n dL_law_1358 rfl ?_
  refine tl_arg dL_law_1359 dL_law_1360 dL_law_1361 dL_law_1362 dL_law_1363 (I.bb hO hr) ⟨by omega, by omega⟩ ⟨by omega, by omega⟩ (by omega) ?_
  refine tl_callV [.int (f (z + 1).toNat)] dL_law_1364 rfl I.x rfl rfl rfl (Nat.le_of_ble_eq_true rfl) rfl c1 ?_
  refine tq_aload_n dL_law_1367 rfl ?_
  refine tl_arg dL_law_1368 dL_law_1369 dL_law_1370 dL_law_1371 dL_law_1372 (I2.bb hO hr) ⟨by omega, by omega⟩ ⟨by omega, by omega⟩ (by omega) ?_
  refine tl_callV [.int (f (z + 1).toNat)] dL_law_1373 rfl IV.m rfl rfl rfl (Nat.le_of_ble_eq_true rfl) rfl c2 ?_
  refine tl_icmpeq dL_law_1376 rfl ?_
  exact kk y' s' I2 hbd
theorem lc_back (hO : hOld G h0) (hG : okW G) (hg : okG G) (I : IV G X M y s) (hr : G.2 b = some (.inl (0, n, .inl f))) (hz : 0 ≤ z) (hn : z + 6 ≤ n ∧ n ≤ 384) (kk : ∀ y' s', IV G X M y' s' → bnd y y' → Tj G 133 0 P z9 1427 [some (.ref b), some (.ref X), some (.ref M), some (.int (iI z))] [] (mH M s' (yH y' h0))) : Tj G 133 0 P z9 1381 [some (.ref b), some (.ref X), some (.ref M), some (.int (iI z))] [] (mH M s (yH y h0)) := by
  obtain ⟨v, y', s', c1, c2, I2, hbd⟩ := q_back hO hG hg I (f (z + 1).toNat)
  refine tq_aload_n dL_law_1381 rfl ?_
  refine tl_arg dL_law_1382 dL_law_1383 dL_law_1384 dL_law_1385 dL_law_1386 (I.bb hO hr) ⟨by omega, by omega⟩ ⟨by omega, by omega⟩ (by omega) ?_
  refine tl_callV [.int (f (z + 1).toNat)] dL_law_1387 rfl I.x rfl rfl rfl (Nat.le_of_ble_eq_true rfl) rfl c1 ?_
  refine tq_aload_n dL_law_1390 rfl ?_
  refine tl_arg dL_law_1391 dL_law_1392 dL_law_1393 dL_law_1394 dL_law_1395 (I2.bb hO hr) ⟨by omega, by omega⟩ ⟨by omega, by omega⟩ (by omega) ?_
  refine tl_callV [.int (f (z + 1).toNat)] dL_law_1396 rfl IV.m rfl rfl rfl (Nat.le_of_ble_eq_true rfl) rfl c2 ?_
  refine tl_icmpeq dL_law_1399 rfl ?_
  exact kk y' s' I2 hbd
theorem lc_about (hO : hOld G h0) (hG : okW G) (hg : okG G) (I : IV G X M y s) (hr : G.2 b = some (.inl (0, n, .inl f))) (hz : 0 ≤ z) (hn : z + 6 ≤ n ∧ n ≤ 384) (kk : ∀ y' s', IV G X M y' s' → bnd y y' → Tj G 133 0 P z9 1427 [some (.ref b), some (.ref X), some (.ref M), some (.int (iI z))] [] (mH M s' (yH y' h0))) : Tj G 133 0 P z9 1404 [some (.ref b), some (.ref X), some (.ref M), some (.int (iI z))] [] (mH M s (yH y h0)) := by
  obtain ⟨v, y', s', c1, c2, I2, hbd⟩ := q_about hO hG hg I (f (z + 1).toNat)
  refine tq_aload_n dL_law_1404 rfl ?_
  refine tl_arg dL_law_1405 dL_law_1406 dL_law_1407 dL_law_1408 dL_law_1409 (I.bb hO hr) ⟨by omega, by omega⟩ ⟨by omega, by omega⟩ (by omega) ?_
  refine tl_callV [.int (f (z + 1).toNat)] dL_law_1410 rfl I.x rfl rfl rfl (Nat.le_of_ble_eq_true rfl) rfl c1 ?_
  refine tq_aload_n dL_law_1413 rfl ?_
  refine tl_arg dL_law_1414 dL_law_1415 dL_law_1416 dL_law_1417 dL_law_1418 (I2.bb hO hr) ⟨by omega, by omega⟩ ⟨by omega, by omega⟩ (by omega) ?_
  refine tl_callV [.int (f (z + 1).toNat)] dL_law_1419 rfl IV.m rfl rfl rfl (Nat.le_of_ble_eq_true rfl) rfl c2 ?_
  refine tl_icmpeq dL_law_1422 rfl ?_
  exact kk y' s' I2 hbd
end P2

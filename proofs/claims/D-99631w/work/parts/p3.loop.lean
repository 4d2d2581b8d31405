/-! THE LAW: its loop (printed by tools/gen_p3.py) -/
set_option maxRecDepth 100000
theorem and63 (a : Int32) : ∃ k : Nat, k < 64 ∧ a &&& 63 = iI k := by
  refine ⟨(a &&& 63).toBitVec.toNat, ?_, ?_⟩
  · show (a.toBitVec &&& 63#32).toNat < 64
    rw [BitVec.toNat_and]
    have : a.toBitVec.toNat &&& 63 ≤ 63 := Nat.and_le_right
    exact Nat.lt_succ_of_le this
  · rw [← iI_ofNat]
    apply Int32.toBitVec_inj.mp
    simp
theorem tsw43 : ∀ k : Fin 64, 43 ≤ k.val → ai_tsw 1394 0 42 #[187, 250, 273, 286, 309, 342, 375, 418, 441, 500, 533, 556, 589, 602, 615, 638, 661, 684, 717, 750, 783, 806, 819, 852, 875, 908, 931, 974, 987, 1000, 1013, 1026, 1049, 1072, 1131, 1190, 1213, 1236, 1259, 1292, 1325, 1348, 1371] (iI k.val).toInt = some 1394 := by decide +kernel
/-- the law ends with true, its room is kept -/
def PL (c0 d0 : Nat) : Unit → Option ai_R → Prop := fun _ run => ∃ h', run = some (.inl (some (.int 1)), h') ∧ h'.2.1 ≤ c0 ∧ h'.2.2 ≤ d0
section P3
variable {G : ai_G} {X M b n c0 d0 : Nat} {h0 : ai_H} {f : Nat → Int32}
theorem lw_loop (hO : hOld G h0) (hG : okW G) (hg : okG G) (hr : G.2 b = some (.inl (0, n, .inl f))) (hn : n ≤ 384) : ∀ (m : Nat) (y : yS) (s : mS) (z : Int), 0 ≤ z → z ≤ n → (n : Int) - z < 6 * m + 6 → IV G X M y s → yn y + 5000 * m ≤ c0 → yu y + 50000 * m ≤ d0 → Tj G 133 0 (PL c0 d0) (some ()) 18 [some (.ref b), some (.ref X), some (.ref M), some (.int (iI z))] [] (mH M s (yH y h0)) := by
  intro m
  induction m with
  | zero =>
    intro y s z z1 z2 z3 I r1 r2
    refine tq_iload_n dL_law_18 rfl ?_
    refine tq_aload_n dL_law_19 rfl ?_
    refine tl_alen dL_law_20 (I.bb hO hr) (by decide) (iI_ofNat n) ?_
    refine tq_bipush dL_law_21 (v := iI 6) rfl ?_
    refine tq_isub dL_law_23 ?_
    rw [iI_sub]
    refine tl_gt1 dL_law_24 rfl (by rw [iI_lt (by omega) (by omega) (by omega) (by omega)]; omega) ?_
    refine tq_iconst dL_law_1433 (v := 1) rfl ?_
    exact tq_ireturn dL_law_1434 rfl ⟨_, rfl, by show yn y ≤ c0; omega, by show yu y ≤ d0; omega⟩
  | succ m ih =>
    intro y s z z1 z2 z3 I r1 r2
    refine tq_iload_n dL_law_18 rfl ?_
    refine tq_aload_n dL_law_19 rfl ?_
    refine tl_alen dL_law_20 (I.bb hO hr) (by decide) (iI_ofNat n) ?_
    refine tq_bipush dL_law_21 (v := iI 6) rfl ?_
    refine tq_isub dL_law_23 ?_
    rw [iI_sub]
    by_cases hc : (n : Int) - 6 < z
    · refine tl_gt1 dL_law_24 rfl (by rw [iI_lt (by omega) (by omega) (by omega) (by omega)]; exact hc) ?_
      refine tq_iconst dL_law_1433 (v := 1) rfl ?_
      exact tq_ireturn dL_law_1434 rfl ⟨_, rfl, by show yn y ≤ c0; omega, by show yu y ≤ d0; omega⟩
    · refine tl_gt0 dL_law_24 rfl (by rw [iI_lt (by omega) (by omega) (by omega) (by omega)]; exact hc) ?_
      refine tq_aload_n dL_law_27 rfl ?_
      refine tq_iload_n dL_law_28 rfl ?_
      refine tl_iald dL_law_29 (I.bb hO hr) (inb_i (by omega) (by omega) (by omega)) (v := f z.toNat) (by rw [iI_clamp (by omega) (by omega)]) ?_
      refine tq_bipush dL_law_30 (v := 63) rfl ?_
      refine tq_iand dL_law_32 ?_
      have kk : ∀ y' s', IV G X M y' s' → bnd y y' → Tj G 133 0 (PL c0 d0) (some ()) 1427 [some (.ref b), some (.ref X), some (.ref M), some (.int (iI z))] [] (mH M s' (yH y' h0)) := by
        intro y' s' I2 hb
        obtain ⟨-, b2, b3, -⟩ := hb
        refine tq_iinc dL_law_1427 rfl (Nat.le_of_ble_eq_true rfl) (v := iI (z + 6)) (by rw [← iI_add]; rfl) rfl ?_
        refine tq_goto dL_law_1430 rfl ?_
        exact ih y' s' (z + 6) (by omega) (by omega) (by omega) I2 (by omega) (by omega)
      obtain ⟨k, hk, ek⟩ := and63 (f z.toNat)
      rw [ek]
      by_cases h43 : 43 ≤ k
      · exact tq_tsw dL_law_33 (tsw43 ⟨k, hk⟩ h43) rfl (kk y s I bnd.refl)
      · have : k = 0 ∨ k = 1 ∨ k = 2 ∨ k = 3 ∨ k = 4 ∨ k = 5 ∨ k = 6 ∨ k = 7 ∨ k = 8 ∨ k = 9 ∨ k = 10 ∨ k = 11 ∨ k = 12 ∨ k = 13 ∨ k = 14 ∨ k = 15 ∨ k = 16 ∨ k = 17 ∨ k = 18 ∨ k = 19 ∨ k = 20 ∨ k = 21 ∨ k = 22 ∨ k = 23 ∨ k = 24 ∨ k = 25 ∨ k = 26 ∨ k = 27 ∨ k = 28 ∨ k = 29 ∨ k = 30 ∨ k = 31 ∨ k = 32 ∨ k = 33 ∨ k = 34 ∨ k = 35 ∨ k = 36 ∨ k = 37 ∨ k = 38 ∨ k = 39 ∨ k = 40 ∨ k = 41 ∨ k = 42 := by omega
        rcases this with rfl | rfl | rfl | rfl | rfl | rfl | rfl | rfl | rfl | rfl | rfl | rfl | rfl | rfl | rfl | rfl | rfl | rfl | rfl | rfl | rfl | rfl | rfl | rfl | rfl | rfl | rfl | rfl | rfl | rfl | rfl | rfl | rfl | rfl | rfl | rfl | rfl | rfl | rfl | rfl | rfl | rfl | rfl
        · exact tq_tsw dL_law_33 rfl rfl (lc_feed hO hG hg I hr z1 ⟨by omega, hn⟩ kk)
        · exact tq_tsw dL_law_33 rfl rfl (lc_end hO hG hg I hr z1 ⟨by omega, hn⟩ kk)
        · exact tq_tsw dL_law_33 rfl rfl (lc_river hO hG hg I hr z1 ⟨by omega, hn⟩ kk)
        · exact tq_tsw dL_law_33 rfl rfl (lc_fault hO hG hg I hr z1 ⟨by omega, hn⟩ kk)
        · exact tq_tsw dL_law_33 rfl rfl (lc_board hO hG hg I hr z1 ⟨by omega, hn⟩ kk)
        · exact tq_tsw dL_law_33 rfl rfl (lc_load hO hG hg I hr z1 ⟨by omega, hn⟩ kk)
        · exact tq_tsw dL_law_33 rfl rfl (lc_spot hO hG hg I hr z1 ⟨by omega, hn⟩ kk)
        · exact tq_tsw dL_law_33 rfl rfl (lc_hotter hO hG hg I hr z1 ⟨by omega, hn⟩ kk)
        · exact tq_tsw dL_law_33 rfl rfl (lc_stroke hO hG hg I hr z1 ⟨by omega, hn⟩ kk)
        · exact tq_tsw dL_law_33 rfl rfl (lc_stow hO hG hg I hr z1 ⟨by omega, hn⟩ kk)
        · exact tq_tsw dL_law_33 rfl rfl (lc_take hO hG hg I hr z1 ⟨by omega, hn⟩ kk)
        · exact tq_tsw dL_law_33 rfl rfl (lc_cool hO hG hg I hr z1 ⟨by omega, hn⟩ kk)
        · exact tq_tsw dL_law_33 rfl rfl (lc_undo hO hG hg I hr z1 ⟨by omega, hn⟩ kk)
        · exact tq_tsw dL_law_33 rfl rfl (lc_redo hO hG hg I hr z1 ⟨by omega, hn⟩ kk)
        · exact tq_tsw dL_law_33 rfl rfl (lc_landings hO hG hg I hr z1 ⟨by omega, hn⟩ kk)
        · exact tq_tsw dL_law_33 rfl rfl (lc_drift hO hG hg I hr z1 ⟨by omega, hn⟩ kk)
        · exact tq_tsw dL_law_33 rfl rfl (lc_rows hO hG hg I hr z1 ⟨by omega, hn⟩ kk)
        · exact tq_tsw dL_law_33 rfl rfl (lc_coolest hO hG hg I hr z1 ⟨by omega, hn⟩ kk)
        · exact tq_tsw dL_law_33 rfl rfl (lc_straight hO hG hg I hr z1 ⟨by omega, hn⟩ kk)
        · exact tq_tsw dL_law_33 rfl rfl (lc_widest hO hG hg I hr z1 ⟨by omega, hn⟩ kk)
        · exact tq_tsw dL_law_33 rfl rfl (lc_trips hO hG hg I hr z1 ⟨by omega, hn⟩ kk)
        · exact tq_tsw dL_law_33 rfl rfl (lc_stowing hO hG hg I hr z1 ⟨by omega, hn⟩ kk)
        · exact tq_tsw dL_law_33 rfl rfl (lc_meet hO hG hg I hr z1 ⟨by omega, hn⟩ kk)
        · exact tq_tsw dL_law_33 rfl rfl (lc_mooring hO hG hg I hr z1 ⟨by omega, hn⟩ kk)
        · exact tq_tsw dL_law_33 rfl rfl (lc_guests hO hG hg I hr z1 ⟨by omega, hn⟩ kk)
        · exact tq_tsw dL_law_33 rfl rfl (lc_singe hO hG hg I hr z1 ⟨by omega, hn⟩ kk)
        · exact tq_tsw dL_law_33 rfl rfl (lc_odds hO hG hg I hr z1 ⟨by omega, hn⟩ kk)
        · exact tq_tsw dL_law_33 rfl rfl (lc_over hO hG hg I hr z1 ⟨by omega, hn⟩ kk)
        · exact tq_tsw dL_law_33 rfl rfl (lc_left hO hG hg I hr z1 ⟨by omega, hn⟩ kk)
        · exact tq_tsw dL_law_33 rfl rfl (lc_pulled hO hG hg I hr z1 ⟨by omega, hn⟩ kk)
        · exact tq_tsw dL_law_33 rfl rfl (lc_hottest hO hG hg I hr z1 ⟨by omega, hn⟩ kk)
        · exact tq_tsw dL_law_33 rfl rfl (lc_law hO hG hg I hr z1 ⟨by omega, hn⟩ kk)
        · exact tq_tsw dL_law_33 rfl rfl (lc_lies hO hG hg I hr z1 ⟨by omega, hn⟩ kk)
        · exact tq_tsw dL_law_33 rfl rfl (lc_passed hO hG hg I hr z1 ⟨by omega, hn⟩ kk)
        · exact tq_tsw dL_law_33 rfl rfl (lc_felt hO hG hg I hr z1 ⟨by omega, hn⟩ kk)
        · exact tq_tsw dL_law_33 rfl rfl (lc_untell hO hG hg I hr z1 ⟨by omega, hn⟩ kk)
        · exact tq_tsw dL_law_33 rfl rfl (lc_later hO hG hg I hr z1 ⟨by omega, hn⟩ kk)
        · exact tq_tsw dL_law_33 rfl rfl (lc_fits hO hG hg I hr z1 ⟨by omega, hn⟩ kk)
        · exact tq_tsw dL_law_33 rfl rfl (lc_sure hO hG hg I hr z1 ⟨by omega, hn⟩ kk)
        · exact tq_tsw dL_law_33 rfl rfl (lc_ask hO hG hg I hr z1 ⟨by omega, hn⟩ kk)
        · exact tq_tsw dL_law_33 rfl rfl (lc_image hO hG hg I hr z1 ⟨by omega, hn⟩ kk)
        · exact tq_tsw dL_law_33 rfl rfl (lc_back hO hG hg I hr z1 ⟨by omega, hn⟩ kk)
        · exact tq_tsw dL_law_33 rfl rfl (lc_about hO hG hg I hr z1 ⟨by omega, hn⟩ kk)
end P3

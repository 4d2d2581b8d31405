/-! LAYER 3: the constructor, up to the start (printed by tools/gen_k5.py) -/
set_option maxRecDepth 100000
def yZ : yS := (fun _ => none, fun _ _ => 0, fun _ _ => 0, fun _ _ => none, fun _ _ => none, fun _ _ => 0, 0, 0)
section K5
variable {G : ai_G} {X Q B : Nat} {c u : yS}
theorem st_wR2 (h : rlY X Q B c u) {cc c1 c2 : Nat} (hc : cc = c1 ∨ (¬ cc = c1 ∧ cc = c2)) (j : Nat) {a b : Nat} (ht : yt c a = some (.inr cc)) (ha : a < yn c) (hb : ¬ b = 1000000) : ∃ u', wR2 c1 c2 j u (X + a) (some (X + b)) = some u' ∧ rlY X Q B (sR c a j (some b)) u' := by
  obtain ⟨u', e, r⟩ := st_wR h j ht ha hb
  refine ⟨u', ?_, r⟩
  unfold wR2
  rw [h.t ht ha]
  rcases hc with z | ⟨z1, z2⟩
  · subst z; rw [if_pos rfl]; exact e
  · subst z2
    rw [if_neg (fun w => z1 (by cases w; rfl))]
    exact e
theorem rlY.sE (h : rlY X Q B c u) {a : Nat} {p : Nat × Nat} (ht : yt c a = some (.inl p)) (ha : a < yn c) (i b : Nat) (hb : ¬ b = 1000000) : rlY X Q B (sE c a (va_up (ye c a) i (some b))) (sE u (X + a) (va_up (ye u (X + a)) i (some (X + b)))) := by
  obtain ⟨h1, h2, h3⟩ := h
  refine ⟨h1, h2, fun k hk => ?_⟩
  obtain ⟨g1, g2, g3⟩ := h3 k hk
  refine ⟨g1, g2, fun q hq => ⟨(g3 q hq).1, fun j => ?_⟩⟩
  show va_up (ye u) (X + a) (va_up (ye u (X + a)) i (some (X + b))) (X + k) j = (va_up (ye c) a (va_up (ye c a) i (some b)) k j).map (shA X Q)
  unfold va_up
  by_cases e : k = a
  · rw [if_pos (by omega), if_pos e]
    by_cases e2 : j = i
    · rw [if_pos e2, if_pos e2]
      show some (X + b) = some (shA X Q b)
      unfold shA
      rw [if_neg hb]
    · rw [if_neg e2, if_neg e2, ← e]
      exact (g3 q hq).2 j
  · rw [if_neg (by omega), if_neg e]
    exact (g3 q hq).2 j
theorem st_wE (h : rlY X Q B c u) {a b m : Nat} {i : Int} (ht : yt c a = some (.inl (5, m))) (ha : a < yn c) (tb : yt c b = some (.inr 6)) (hb : b < yn c) (hb2 : ¬ b = 1000000) (i1 : 0 ≤ i) (i2 : i < m) (hm : m < 2147483648) : ∃ u', wE u (X + a) (iI i) (some (X + b)) = some u' ∧ rlY X Q B (sE c a (va_up (ye c a) i.toNat (some b))) u' := by
  refine ⟨_, wE_n (h.t ht ha) ?_ i1 i2 hm, h.sE ht ha _ _ hb2⟩
  simp only [okE]
  rw [h.t tb hb]
  rfl
/-- what the constructor has made, by plain numbers -/
def iniC (c : yS) : Prop := yn c = 42 ∧ (yt c 0 = some (.inr 0) ∧ yr c 0 0 = some 1) ∧ (∀ p ∈ fldO, yr c 0 p.1 = some p.2) ∧ (∀ p ∈ tagO, yt c p.1 = some p.2) ∧ (∀ a ∈ [8, 15], yt c a = some (.inr 2) ∧ (∀ k, k < 6 → yr c a k = some (a + 1 + k)) ∧ (∀ k, k < 5 → yt c (a + 1 + k) = some (.inl (0, 4))) ∧ yt c (a + 6) = some (.inl (0, 7))) ∧ (yr c 28 2 = some 0 ∧ yr c 28 3 = some 0 ∧ yr c 29 2 = some 0) ∧ (∀ i, i < 3 → ye c 38 i = some (39 + i)) ∧ (yt c 1 = some (.inr 1) ∧ (∀ p ∈ [(0, 2), (1, 3), (2, 4), (3, 5), (4, 6), (16, 7)], yr c 1 p.1 = some p.2) ∧ yt c 4 = some (.inl (0, 56)) ∧ yt c 5 = some (.inl (1, 56)) ∧ yt c 6 = some (.inl (1, 56)) ∧ yt c 7 = some (.inl (0, 6))) ∧ (yf c 1 8 = 8 ∧ yf c 1 9 = 6 ∧ yf c 1 14 = 0 ∧ yf c 1 13 = 0 ∧ yf c 1 15 = 0) ∧ (∀ l ∈ [2, 3, 24, 25, 34], yt c l = some (.inr 16) ∧ yf c l 2 = 0 ∧ yr c l 1 = some 1000000) ∧ (yf c 0 5 = 0 ∧ yf c 0 6 = 0 ∧ yf c 0 7 = 0 ∧ yf c 0 8 = -1) ∧ (∀ a ∈ [4, 5, 6, 7, 22, 30], ya c a = fun _ => 0)
theorem c_init0 (hQ : cst G 50 = some Q) (r0 : rlY X Q B (nO yZ 0) u) : ∃ c u', rlY X Q B c u' ∧ iniC c ∧ yr c 1 5 = none ∧ fy_B_init G u (X + 0) = (fy_B_start G u' (X + 0)).bind fun p => some p := by
  obtain ⟨u1, e1, r1⟩ := st_mk r0 1 (k := 1) rfl
  obtain ⟨u2, e2, r2⟩ := st_mk r1 16 (k := 2) rfl
  obtain ⟨u3, e3, r3⟩ := st_list hQ r2 (a := 2) rfl (by decide)
  obtain ⟨u4, e4, r4⟩ := st_wR r3 (cc := 1) 0 (a := 1) (b := 2) rfl (by decide) (by decide)
  obtain ⟨u5, e5, r5⟩ := st_mk r4 16 (k := 3) rfl
  obtain ⟨u6, e6, r6⟩ := st_list hQ r5 (a := 3) rfl (by decide)
  obtain ⟨u7, e7, r7⟩ := st_wR r6 (cc := 1) 1 (a := 1) (b := 3) rfl (by decide) (by decide)
  obtain ⟨u8, e8, r8⟩ := st_mka r7 0 (z := 56) (k := 4) (by omega) (by omega) rfl
  obtain ⟨u9, e9, r9⟩ := st_wR r8 (cc := 1) 2 (a := 1) (b := 4) rfl (by decide) (by decide)
  obtain ⟨u10, e10, r10⟩ := st_mka r9 1 (z := 56) (k := 5) (by omega) (by omega) rfl
  obtain ⟨u11, e11, r11⟩ := st_wR r10 (cc := 1) 3 (a := 1) (b := 5) rfl (by decide) (by decide)
  obtain ⟨u12, e12, r12⟩ := st_mka r11 1 (z := 56) (k := 6) (by omega) (by omega) rfl
  obtain ⟨u13, e13, r13⟩ := st_wR r12 (cc := 1) 4 (a := 1) (b := 6) rfl (by decide) (by decide)
  obtain ⟨u14, e14, r14⟩ := st_wI r13 (cc := 1) 8 (a := 1) 8 rfl (by decide)
  obtain ⟨u15, e15, r15⟩ := st_wI r14 (cc := 1) 9 (a := 1) 6 rfl (by decide)
  obtain ⟨u16, e16, r16⟩ := st_mka r15 0 (z := 6) (k := 7) (by omega) (by omega) rfl
  obtain ⟨u17, e17, r17⟩ := st_wR r16 (cc := 1) 16 (a := 1) (b := 7) rfl (by decide) (by decide)
  obtain ⟨u18, e18, r18⟩ := st_wR r17 (cc := 0) 0 (a := 0) (b := 1) rfl (by decide) (by decide)
  obtain ⟨u19, e19, r19⟩ := st_mk r18 2 (k := 8) rfl
  obtain ⟨u20, e20, r20⟩ := st_state (G := G) r19 (a := 8) (k := 9) rfl (by decide) rfl (by decide)
  obtain ⟨u21, e21, r21⟩ := st_wR r20 (cc := 0) 1 (a := 0) (b := 8) rfl (by decide) (by decide)
  obtain ⟨u22, e22, r22⟩ := st_mk r21 2 (k := 15) rfl
  obtain ⟨u23, e23, r23⟩ := st_state (G := G) r22 (a := 15) (k := 16) rfl (by decide) rfl (by decide)
  obtain ⟨u24, e24, r24⟩ := st_wR r23 (cc := 0) 2 (a := 0) (b := 15) rfl (by decide) (by decide)
  obtain ⟨u25, e25, r25⟩ := st_mka r24 2 (z := 1600) (k := 22) (by omega) (by omega) rfl
  obtain ⟨u26, e26, r26⟩ := st_wR r25 (cc := 0) 3 (a := 0) (b := 22) rfl (by decide) (by decide)
  obtain ⟨u27, e27, r27⟩ := st_mk r26 3 (k := 23) rfl
  have k27 := st_ck r27 (cc := 3) (a := 23) rfl (by decide)
  obtain ⟨u28, e28, r28⟩ := st_wR r27 (cc := 0) 4 (a := 0) (b := 23) rfl (by decide) (by decide)
  obtain ⟨u29, e29, r29⟩ := st_wI r28 (cc := 0) 8 (a := 0) (-1) rfl (by decide)
  obtain ⟨u30, e30, r30⟩ := st_mk r29 16 (k := 24) rfl
  obtain ⟨u31, e31, r31⟩ := st_list hQ r30 (a := 24) rfl (by decide)
  obtain ⟨u32, e32, r32⟩ := st_wR r31 (cc := 0) 9 (a := 0) (b := 24) rfl (by decide) (by decide)
  obtain ⟨u33, e33, r33⟩ := st_mk r32 16 (k := 25) rfl
  obtain ⟨u34, e34, r34⟩ := st_list hQ r33 (a := 25) rfl (by decide)
  obtain ⟨u35, e35, r35⟩ := st_wR r34 (cc := 0) 10 (a := 0) (b := 25) rfl (by decide) (by decide)
  obtain ⟨u36, e36, r36⟩ := st_mka r35 0 (z := 7) (k := 26) (by omega) (by omega) rfl
  obtain ⟨u37, e37, r37⟩ := st_wR r36 (cc := 0) 11 (a := 0) (b := 26) rfl (by decide) (by decide)
  obtain ⟨u38, e38, r38⟩ := st_mka r37 0 (z := 7) (k := 27) (by omega) (by omega) rfl
  obtain ⟨u39, e39, r39⟩ := st_wR r38 (cc := 0) 12 (a := 0) (b := 27) rfl (by decide) (by decide)
  obtain ⟨u40, e40, r40⟩ := st_mk r39 4 (k := 28) rfl
  obtain ⟨u41, e41, r41⟩ := st_wR r40 (cc := 4) 3 (a := 28) (b := 0) rfl (by decide) (by decide)
  obtain ⟨u42, e42, r42⟩ := st_wR2 r41 (cc := 4) (c1 := 4) (c2 := 5) (Or.inl rfl) 2 (a := 28) (b := 0) rfl (by decide) (by decide)
  obtain ⟨u43, e43, r43⟩ := st_wR r42 (cc := 0) 14 (a := 0) (b := 28) rfl (by decide) (by decide)
  obtain ⟨u44, e44, r44⟩ := st_mk r43 5 (k := 29) rfl
  obtain ⟨u45, e45, r45⟩ := st_wR r44 (cc := 5) 4 (a := 29) (b := 0) rfl (by decide) (by decide)
  obtain ⟨u46, e46, r46⟩ := st_wR2 r45 (cc := 5) (c1 := 4) (c2 := 5) (Or.inr ⟨by decide, rfl⟩) 2 (a := 29) (b := 0) rfl (by decide) (by decide)
  obtain ⟨u47, e47, r47⟩ := st_wR r46 (cc := 0) 15 (a := 0) (b := 29) rfl (by decide) (by decide)
  obtain ⟨u48, e48, r48⟩ := st_mka r47 0 (z := 8) (k := 30) (by omega) (by omega) rfl
  obtain ⟨u49, e49, r49⟩ := st_wR r48 (cc := 0) 17 (a := 0) (b := 30) rfl (by decide) (by decide)
  obtain ⟨u50, e50, r50⟩ := st_mka r49 1 (z := 64) (k := 31) (by omega) (by omega) rfl
  obtain ⟨u51, e51, r51⟩ := st_wR r50 (cc := 0) 18 (a := 0) (b := 31) rfl (by decide) (by decide)
  obtain ⟨u52, e52, r52⟩ := st_mka r51 1 (z := 64) (k := 32) (by omega) (by omega) rfl
  obtain ⟨u53, e53, r53⟩ := st_wR r52 (cc := 0) 19 (a := 0) (b := 32) rfl (by decide) (by decide)
  obtain ⟨u54, e54, r54⟩ := st_mka r53 0 (z := 4) (k := 33) (by omega) (by omega) rfl
  obtain ⟨u55, e55, r55⟩ := st_wR r54 (cc := 0) 22 (a := 0) (b := 33) rfl (by decide) (by decide)
  obtain ⟨u56, e56, r56⟩ := st_mk r55 16 (k := 34) rfl
  obtain ⟨u57, e57, r57⟩ := st_list hQ r56 (a := 34) rfl (by decide)
  obtain ⟨u58, e58, r58⟩ := st_wR r57 (cc := 0) 23 (a := 0) (b := 34) rfl (by decide) (by decide)
  obtain ⟨u59, e59, r59⟩ := st_mka r58 0 (z := 4374) (k := 35) (by omega) (by omega) rfl
  obtain ⟨u60, e60, r60⟩ := st_wR r59 (cc := 0) 24 (a := 0) (b := 35) rfl (by decide) (by decide)
  obtain ⟨u61, e61, r61⟩ := st_mka r60 0 (z := 4374) (k := 36) (by omega) (by omega) rfl
  obtain ⟨u62, e62, r62⟩ := st_wR r61 (cc := 0) 25 (a := 0) (b := 36) rfl (by decide) (by decide)
  obtain ⟨u63, e63, r63⟩ := st_mka r62 0 (z := 18) (k := 37) (by omega) (by omega) rfl
  obtain ⟨u64, e64, r64⟩ := st_wR r63 (cc := 0) 26 (a := 0) (b := 37) rfl (by decide) (by decide)
  obtain ⟨u65, e65, r65⟩ := st_mka r64 5 (z := 3) (k := 38) (by omega) (by omega) rfl
  obtain ⟨u66, e66, r66⟩ := st_mk r65 6 (k := 39) rfl
  obtain ⟨u67, e67, r67⟩ := st_wN r66 (cc := 6) 0 (a := 39) rfl (by decide)
  obtain ⟨u68, e68, r68⟩ := st_wE r67 (a := 38) (b := 39) (m := 3) (i := 0) rfl (by decide) rfl (by decide) (by decide) (by omega) (by omega) (by omega)
  obtain ⟨u69, e69, r69⟩ := st_mk r68 6 (k := 40) rfl
  obtain ⟨u70, e70, r70⟩ := st_wN r69 (cc := 6) 0 (a := 40) rfl (by decide)
  obtain ⟨u71, e71, r71⟩ := st_wE r70 (a := 38) (b := 40) (m := 3) (i := 1) rfl (by decide) rfl (by decide) (by decide) (by omega) (by omega) (by omega)
  obtain ⟨u72, e72, r72⟩ := st_mk r71 6 (k := 41) rfl
  obtain ⟨u73, e73, r73⟩ := st_wN r72 (cc := 6) 0 (a := 41) rfl (by decide)
  obtain ⟨u74, e74, r74⟩ := st_wE r73 (a := 38) (b := 41) (m := 3) (i := 2) rfl (by decide) rfl (by decide) (by decide) (by omega) (by omega) (by omega)
  obtain ⟨u75, e75, r75⟩ := st_wR r74 (cc := 0) 28 (a := 0) (b := 38) rfl (by decide) (by decide)
  have k75 := st_ck r75 (cc := 0) (a := 0) rfl (by decide)
  refine ⟨_, u75, r75, ⟨rfl, ⟨rfl, rfl⟩, by decide, by decide, by decide, ⟨rfl, rfl, rfl⟩, by decide, ⟨rfl, by decide, rfl, rfl, rfl, rfl⟩, ⟨rfl, rfl, rfl, rfl, rfl⟩, by decide, ⟨rfl, rfl, rfl, rfl⟩, ?_⟩, rfl, ?_⟩
  · intro a ha
    simp only [List.mem_cons, List.not_mem_nil, or_false] at ha
    rcases ha with rfl | rfl | rfl | rfl | rfl | rfl <;> rfl
  unfold fy_B_init fy_River_init fy_Coolest_init fy_Straightest_init fy_Wish_init fy_Kept_init
  simp only [iI_lit] at *
  simp only [e1, e2, e3, e4, e5, e6, e7, e8, e9, e10, e11, e12, e13, e14, e15, e16, e17, e18, e19, e20, e21, e22, e23, e24, e25, e26, e27, k27, e28, e29, e30, e31, e32, e33, e34, e35, e36, e37, e38, e39, e40, e41, e42, e43, e44, e45, e46, e47, e48, e49, e50, e51, e52, e53, e54, e55, e56, e57, e58, e59, e60, e61, e62, e63, e64, e65, e66, e67, e68, e69, e70, e71, e72, e73, e74, e75, k75, obs]
end K5

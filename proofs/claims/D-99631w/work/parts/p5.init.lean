/-! LAYER 3: the constructor once more, with what it keeps (printed by tools/gen_p5.py) -/
set_option maxRecDepth 100000
section P5
variable {G : ai_G} {O : Nat → Nat} {X Q B : Nat} {c y u u' : yS} {cc dd a : Nat}
theorem fw_wR2 {c1 c2 j : Nat} {v : Option Nat} (f : yF O [] cc dd y u) (e : wR2 c1 c2 j u a v = some u') (ha : yn y ≤ a) : yF O [] cc dd y u' := by
  unfold wR2 at e
  split at e
  · exact fw_wR f e ha
  · exact fw_wR f e ha
theorem fw_wE {i : Int32} {v : Option Nat} (f : yF O [] cc dd y u) (e : wE u a i v = some u') (ha : yn y ≤ a) : yF O [] cc dd y u' := by
  unfold wE at e
  split at e
  · split at e
    · cases e; exact f.seN ha
    · cases e
  · cases e
theorem fw_state (f : yF O [] cc dd y u) (e : fy_State_init G u a = some u') (ha : yn y ≤ a) : yF O [] (cc + 6) (dd + 27) y u' := by
  unfold fy_State_init at e
  obtain ⟨s1, e1, e⟩ := Option.bind_eq_some_iff.mp e
  obtain ⟨s2, e2, e⟩ := Option.bind_eq_some_iff.mp e
  obtain ⟨s3, e3, e⟩ := Option.bind_eq_some_iff.mp e
  obtain ⟨s4, e4, e⟩ := Option.bind_eq_some_iff.mp e
  obtain ⟨s5, e5, e⟩ := Option.bind_eq_some_iff.mp e
  obtain ⟨s6, e6, e⟩ := Option.bind_eq_some_iff.mp e
  obtain ⟨s7, e7, e⟩ := Option.bind_eq_some_iff.mp e
  obtain ⟨s8, e8, e⟩ := Option.bind_eq_some_iff.mp e
  obtain ⟨s9, e9, e⟩ := Option.bind_eq_some_iff.mp e
  obtain ⟨s10, e10, e⟩ := Option.bind_eq_some_iff.mp e
  obtain ⟨s11, e11, e⟩ := Option.bind_eq_some_iff.mp e
  obtain ⟨s12, e12, e⟩ := Option.bind_eq_some_iff.mp e
  cases e
  have f1 := fw_mka (z := 4) f (show mka 0 u (iI 4) = some (s1.1, s1.2) from e1) (by omega) (by omega)
  have f2 := fw_wR f1 e2 ha
  have f3 := fw_mka (z := 4) f2 (show mka 0 s2 (iI 4) = some (s3.1, s3.2) from e3) (by omega) (by omega)
  have f4 := fw_wR f3 e4 ha
  have f5 := fw_mka (z := 4) f4 (show mka 0 s4 (iI 4) = some (s5.1, s5.2) from e5) (by omega) (by omega)
  have f6 := fw_wR f5 e6 ha
  have f7 := fw_mka (z := 4) f6 (show mka 0 s6 (iI 4) = some (s7.1, s7.2) from e7) (by omega) (by omega)
  have f8 := fw_wR f7 e8 ha
  have f9 := fw_mka (z := 4) f8 (show mka 0 s8 (iI 4) = some (s9.1, s9.2) from e9) (by omega) (by omega)
  have f10 := fw_wR f9 e10 ha
  have f11 := fw_mka (z := 7) f10 (show mka 0 s10 (iI 7) = some (s11.1, s11.2) from e11) (by omega) (by omega)
  exact fw_wR f11 e12 ha
theorem c_init1 (hQ : cst G 50 = some Q) (hX : X = yn y) (f0 : yF O [] 1 29 y u) (r0 : rlY X Q B (nO yZ 0) u) : ∃ c u', rlY X Q B c u' ∧ iniC c ∧ yr c 1 5 = none ∧ yF O [] 42 20000 y u' ∧ fy_B_init G u (X + 0) = (fy_B_start G u' (X + 0)).bind fun p => some p := by
  obtain ⟨u1, e1, r1⟩ := st_mk r0 1 (k := 1) rfl
  have f1 := fw_mk f0 e1
  obtain ⟨u2, e2, r2⟩ := st_mk r1 16 (k := 2) rfl
  have f2 := fw_mk f1 e2
  obtain ⟨u3, e3, r3⟩ := st_list hQ r2 (a := 2) rfl (by decide)
  have f3 := fw_list hQ f2 e3 (r2.t rfl (by decide)) (by omega)
  obtain ⟨u4, e4, r4⟩ := st_wR r3 (cc := 1) 0 (a := 1) (b := 2) rfl (by decide) (by decide)
  have f4 := fw_wR f3 e4 (by omega)
  obtain ⟨u5, e5, r5⟩ := st_mk r4 16 (k := 3) rfl
  have f5 := fw_mk f4 e5
  obtain ⟨u6, e6, r6⟩ := st_list hQ r5 (a := 3) rfl (by decide)
  have f6 := fw_list hQ f5 e6 (r5.t rfl (by decide)) (by omega)
  obtain ⟨u7, e7, r7⟩ := st_wR r6 (cc := 1) 1 (a := 1) (b := 3) rfl (by decide) (by decide)
  have f7 := fw_wR f6 e7 (by omega)
  obtain ⟨u8, e8, r8⟩ := st_mka r7 0 (z := 56) (k := 4) (by omega) (by omega) rfl
  have f8 := fw_mka f7 e8 (by omega) (by omega)
  obtain ⟨u9, e9, r9⟩ := st_wR r8 (cc := 1) 2 (a := 1) (b := 4) rfl (by decide) (by decide)
  have f9 := fw_wR f8 e9 (by omega)
  obtain ⟨u10, e10, r10⟩ := st_mka r9 1 (z := 56) (k := 5) (by omega) (by omega) rfl
  have f10 := fw_mka f9 e10 (by omega) (by omega)
  obtain ⟨u11, e11, r11⟩ := st_wR r10 (cc := 1) 3 (a := 1) (b := 5) rfl (by decide) (by decide)
  have f11 := fw_wR f10 e11 (by omega)
  obtain ⟨u12, e12, r12⟩ := st_mka r11 1 (z := 56) (k := 6) (by omega) (by omega) rfl
  have f12 := fw_mka f11 e12 (by omega) (by omega)
  obtain ⟨u13, e13, r13⟩ := st_wR r12 (cc := 1) 4 (a := 1) (b := 6) rfl (by decide) (by decide)
  have f13 := fw_wR f12 e13 (by omega)
  obtain ⟨u14, e14, r14⟩ := st_wI r13 (cc := 1) 8 (a := 1) 8 rfl (by decide)
  have f14 := fw_wI f13 e14 (by omega)
  obtain ⟨u15, e15, r15⟩ := st_wI r14 (cc := 1) 9 (a := 1) 6 rfl (by decide)
  have f15 := fw_wI f14 e15 (by omega)
  obtain ⟨u16, e16, r16⟩ := st_mka r15 0 (z := 6) (k := 7) (by omega) (by omega) rfl
  have f16 := fw_mka f15 e16 (by omega) (by omega)
  obtain ⟨u17, e17, r17⟩ := st_wR r16 (cc := 1) 16 (a := 1) (b := 7) rfl (by decide) (by decide)
  have f17 := fw_wR f16 e17 (by omega)
  obtain ⟨u18, e18, r18⟩ := st_wR r17 (cc := 0) 0 (a := 0) (b := 1) rfl (by decide) (by decide)
  have f18 := fw_wR f17 e18 (by omega)
  obtain ⟨u19, e19, r19⟩ := st_mk r18 2 (k := 8) rfl
  have f19 := fw_mk f18 e19
  obtain ⟨u20, e20, r20⟩ := st_state (G := G) r19 (a := 8) (k := 9) rfl (by decide) rfl (by decide)
  have f20 := fw_state f19 e20 (by omega)
  obtain ⟨u21, e21, r21⟩ := st_wR r20 (cc := 0) 1 (a := 0) (b := 8) rfl (by decide) (by decide)
  have f21 := fw_wR f20 e21 (by omega)
  obtain ⟨u22, e22, r22⟩ := st_mk r21 2 (k := 15) rfl
  have f22 := fw_mk f21 e22
  obtain ⟨u23, e23, r23⟩ := st_state (G := G) r22 (a := 15) (k := 16) rfl (by decide) rfl (by decide)
  have f23 := fw_state f22 e23 (by omega)
  obtain ⟨u24, e24, r24⟩ := st_wR r23 (cc := 0) 2 (a := 0) (b := 15) rfl (by decide) (by decide)
  have f24 := fw_wR f23 e24 (by omega)
  obtain ⟨u25, e25, r25⟩ := st_mka r24 2 (z := 1600) (k := 22) (by omega) (by omega) rfl
  have f25 := fw_mka f24 e25 (by omega) (by omega)
  obtain ⟨u26, e26, r26⟩ := st_wR r25 (cc := 0) 3 (a := 0) (b := 22) rfl (by decide) (by decide)
  have f26 := fw_wR f25 e26 (by omega)
  obtain ⟨u27, e27, r27⟩ := st_mk r26 3 (k := 23) rfl
  have f27 := fw_mk f26 e27
  have k27 := st_ck r27 (cc := 3) (a := 23) rfl (by decide)
  obtain ⟨u28, e28, r28⟩ := st_wR r27 (cc := 0) 4 (a := 0) (b := 23) rfl (by decide) (by decide)
  have f28 := fw_wR f27 e28 (by omega)
  obtain ⟨u29, e29, r29⟩ := st_wI r28 (cc := 0) 8 (a := 0) (-1) rfl (by decide)
  have f29 := fw_wI f28 e29 (by omega)
  obtain ⟨u30, e30, r30⟩ := st_mk r29 16 (k := 24) rfl
  have f30 := fw_mk f29 e30
  obtain ⟨u31, e31, r31⟩ := st_list hQ r30 (a := 24) rfl (by decide)
  have f31 := fw_list hQ f30 e31 (r30.t rfl (by decide)) (by omega)
  obtain ⟨u32, e32, r32⟩ := st_wR r31 (cc := 0) 9 (a := 0) (b := 24) rfl (by decide) (by decide)
  have f32 := fw_wR f31 e32 (by omega)
  obtain ⟨u33, e33, r33⟩ := st_mk r32 16 (k := 25) rfl
  have f33 := fw_mk f32 e33
  obtain ⟨u34, e34, r34⟩ := st_list hQ r33 (a := 25) rfl (by decide)
  have f34 := fw_list hQ f33 e34 (r33.t rfl (by decide)) (by omega)
  obtain ⟨u35, e35, r35⟩ := st_wR r34 (cc := 0) 10 (a := 0) (b := 25) rfl (by decide) (by decide)
  have f35 := fw_wR f34 e35 (by omega)
  obtain ⟨u36, e36, r36⟩ := st_mka r35 0 (z := 7) (k := 26) (by omega) (by omega) rfl
  have f36 := fw_mka f35 e36 (by omega) (by omega)
  obtain ⟨u37, e37, r37⟩ := st_wR r36 (cc := 0) 11 (a := 0) (b := 26) rfl (by decide) (by decide)
  have f37 := fw_wR f36 e37 (by omega)
  obtain ⟨u38, e38, r38⟩ := st_mka r37 0 (z := 7) (k := 27) (by omega) (by omega) rfl
  have f38 := fw_mka f37 e38 (by omega) (by omega)
  obtain ⟨u39, e39, r39⟩ := st_wR r38 (cc := 0) 12 (a := 0) (b := 27) rfl (by decide) (by decide)
  have f39 := fw_wR f38 e39 (by omega)
  obtain ⟨u40, e40, r40⟩ := st_mk r39 4 (k := 28) rfl
  have f40 := fw_mk f39 e40
  obtain ⟨u41, e41, r41⟩ := st_wR r40 (cc := 4) 3 (a := 28) (b := 0) rfl (by decide) (by decide)
  have f41 := fw_wR f40 e41 (by omega)
  obtain ⟨u42, e42, r42⟩ := st_wR2 r41 (cc := 4) (c1 := 4) (c2 := 5) (Or.inl rfl) 2 (a := 28) (b := 0) rfl (by decide) (by decide)
  have f42 := fw_wR2 f41 e42 (by omega)
  obtain ⟨u43, e43, r43⟩ := st_wR r42 (cc := 0) 14 (a := 0) (b := 28) rfl (by decide) (by decide)
  have f43 := fw_wR f42 e43 (by omega)
  obtain ⟨u44, e44, r44⟩ := st_mk r43 5 (k := 29) rfl
  have f44 := fw_mk f43 e44
  obtain ⟨u45, e45, r45⟩ := st_wR r44 (cc := 5) 4 (a := 29) (b := 0) rfl (by decide) (by decide)
  have f45 := fw_wR f44 e45 (by omega)
  obtain ⟨u46, e46, r46⟩ := st_wR2 r45 (cc := 5) (c1 := 4) (c2 := 5) (Or.inr ⟨by decide, rfl⟩) 2 (a := 29) (b := 0) rfl (by decide) (by decide)
  have f46 := fw_wR2 f45 e46 (by omega)
  obtain ⟨u47, e47, r47⟩ := st_wR r46 (cc := 0) 15 (a := 0) (b := 29) rfl (by decide) (by decide)
  have f47 := fw_wR f46 e47 (by omega)
  obtain ⟨u48, e48, r48⟩ := st_mka r47 0 (z := 8) (k := 30) (by omega) (by omega) rfl
  have f48 := fw_mka f47 e48 (by omega) (by omega)
  obtain ⟨u49, e49, r49⟩ := st_wR r48 (cc := 0) 17 (a := 0) (b := 30) rfl (by decide) (by decide)
  have f49 := fw_wR f48 e49 (by omega)
  obtain ⟨u50, e50, r50⟩ := st_mka r49 1 (z := 64) (k := 31) (by omega) (by omega) rfl
  have f50 := fw_mka f49 e50 (by omega) (by omega)
  obtain ⟨u51, e51, r51⟩ := st_wR r50 (cc := 0) 18 (a := 0) (b := 31) rfl (by decide) (by decide)
  have f51 := fw_wR f50 e51 (by omega)
  obtain ⟨u52, e52, r52⟩ := st_mka r51 1 (z := 64) (k := 32) (by omega) (by omega) rfl
  have f52 := fw_mka f51 e52 (by omega) (by omega)
  obtain ⟨u53, e53, r53⟩ := st_wR r52 (cc := 0) 19 (a := 0) (b := 32) rfl (by decide) (by decide)
  have f53 := fw_wR f52 e53 (by omega)
  obtain ⟨u54, e54, r54⟩ := st_mka r53 0 (z := 4) (k := 33) (by omega) (by omega) rfl
  have f54 := fw_mka f53 e54 (by omega) (by omega)
  obtain ⟨u55, e55, r55⟩ := st_wR r54 (cc := 0) 22 (a := 0) (b := 33) rfl (by decide) (by decide)
  have f55 := fw_wR f54 e55 (by omega)
  obtain ⟨u56, e56, r56⟩ := st_mk r55 16 (k := 34) rfl
  have f56 := fw_mk f55 e56
  obtain ⟨u57, e57, r57⟩ := st_list hQ r56 (a := 34) rfl (by decide)
  have f57 := fw_list hQ f56 e57 (r56.t rfl (by decide)) (by omega)
  obtain ⟨u58, e58, r58⟩ := st_wR r57 (cc := 0) 23 (a := 0) (b := 34) rfl (by decide) (by decide)
  have f58 := fw_wR f57 e58 (by omega)
  obtain ⟨u59, e59, r59⟩ := st_mka r58 0 (z := 4374) (k := 35) (by omega) (by omega) rfl
  have f59 := fw_mka f58 e59 (by omega) (by omega)
  obtain ⟨u60, e60, r60⟩ := st_wR r59 (cc := 0) 24 (a := 0) (b := 35) rfl (by decide) (by decide)
  have f60 := fw_wR f59 e60 (by omega)
  obtain ⟨u61, e61, r61⟩ := st_mka r60 0 (z := 4374) (k := 36) (by omega) (by omega) rfl
  have f61 := fw_mka f60 e61 (by omega) (by omega)
  obtain ⟨u62, e62, r62⟩ := st_wR r61 (cc := 0) 25 (a := 0) (b := 36) rfl (by decide) (by decide)
  have f62 := fw_wR f61 e62 (by omega)
  obtain ⟨u63, e63, r63⟩ := st_mka r62 0 (z := 18) (k := 37) (by omega) (by omega) rfl
  have f63 := fw_mka f62 e63 (by omega) (by omega)
  obtain ⟨u64, e64, r64⟩ := st_wR r63 (cc := 0) 26 (a := 0) (b := 37) rfl (by decide) (by decide)
  have f64 := fw_wR f63 e64 (by omega)
  obtain ⟨u65, e65, r65⟩ := st_mka r64 5 (z := 3) (k := 38) (by omega) (by omega) rfl
  have f65 := fw_mka f64 e65 (by omega) (by omega)
  obtain ⟨u66, e66, r66⟩ := st_mk r65 6 (k := 39) rfl
  have f66 := fw_mk f65 e66
  obtain ⟨u67, e67, r67⟩ := st_wN r66 (cc := 6) 0 (a := 39) rfl (by decide)
  have f67 := fw_wR f66 e67 (by omega)
  obtain ⟨u68, e68, r68⟩ := st_wE r67 (a := 38) (b := 39) (m := 3) (i := 0) rfl (by decide) rfl (by decide) (by decide) (by omega) (by omega) (by omega)
  have f68 := fw_wE f67 e68 (by omega)
  obtain ⟨u69, e69, r69⟩ := st_mk r68 6 (k := 40) rfl
  have f69 := fw_mk f68 e69
  obtain ⟨u70, e70, r70⟩ := st_wN r69 (cc := 6) 0 (a := 40) rfl (by decide)
  have f70 := fw_wR f69 e70 (by omega)
  obtain ⟨u71, e71, r71⟩ := st_wE r70 (a := 38) (b := 40) (m := 3) (i := 1) rfl (by decide) rfl (by decide) (by decide) (by omega) (by omega) (by omega)
  have f71 := fw_wE f70 e71 (by omega)
  obtain ⟨u72, e72, r72⟩ := st_mk r71 6 (k := 41) rfl
  have f72 := fw_mk f71 e72
  obtain ⟨u73, e73, r73⟩ := st_wN r72 (cc := 6) 0 (a := 41) rfl (by decide)
  have f73 := fw_wR f72 e73 (by omega)
  obtain ⟨u74, e74, r74⟩ := st_wE r73 (a := 38) (b := 41) (m := 3) (i := 2) rfl (by decide) rfl (by decide) (by decide) (by omega) (by omega) (by omega)
  have f74 := fw_wE f73 e74 (by omega)
  obtain ⟨u75, e75, r75⟩ := st_wR r74 (cc := 0) 28 (a := 0) (b := 38) rfl (by decide) (by decide)
  have f75 := fw_wR f74 e75 (by omega)
  have k75 := st_ck r75 (cc := 0) (a := 0) rfl (by decide)
  refine ⟨_, u75, r75, ⟨rfl, ⟨rfl, rfl⟩, by decide, by decide, by decide, ⟨rfl, rfl, rfl⟩, by decide, ⟨rfl, by decide, rfl, rfl, rfl, rfl⟩, ⟨rfl, rfl, rfl, rfl, rfl⟩, by decide, ⟨rfl, rfl, rfl, rfl⟩, ?_⟩, rfl, f75.mono rfl (by decide) (by decide), ?_⟩
  · intro a ha
    simp only [List.mem_cons, List.not_mem_nil, or_false] at ha
    rcases ha with rfl | rfl | rfl | rfl | rfl | rfl <;> rfl
  unfold fy_B_init fy_River_init fy_Coolest_init fy_Straightest_init fy_Wish_init fy_Kept_init
  simp only [iI_lit] at *
  simp only [e1, e2, e3, e4, e5, e6, e7, e8, e9, e10, e11, e12, e13, e14, e15, e16, e17, e18, e19, e20, e21, e22, e23, e24, e25, e26, e27, k27, e28, e29, e30, e31, e32, e33, e34, e35, e36, e37, e38, e39, e40, e41, e42, e43, e44, e45, e46, e47, e48, e49, e50, e51, e52, e53, e54, e55, e56, e57, e58, e59, e60, e61, e62, e63, e64, e65, e66, e67, e68, e69, e70, e71, e72, e73, e74, e75, k75, obs]
end P5

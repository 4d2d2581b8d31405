/-! LAYER 3, the river: the reader's constructor (printed by tools/gen_o2.py) -/
set_option maxRecDepth 100000
section O2
variable {G : ai_G} {O : Nat → Nat} {X Q B : Nat} {y u u' : yS} {c d a : Nat}
theorem fw_mk {t : Nat} (f : yF O [] c d y u) (e : mk t u = some (a, u')) : yF O [] (c + 1) (d + ai_nf t) y u' := by
  unfold mk at e
  cases e
  exact f.no
theorem fw_mka {kd : Nat} {z : Int} (f : yF O [] c d y u) (e : mka kd u (iI z) = some (a, u')) (h1 : 0 ≤ z) (h2 : z ≤ 65536) : yF O [] (c + 1) (d + z.toNat) y u' := by
  rw [mka_i h1 h2] at e
  cases e
  exact f.na
theorem fw_wR {cc j : Nat} {v : Option Nat} (f : yF O [] c d y u) (e : wR cc j u a v = some u') (ha : yn y ≤ a) : yF O [] c d y u' := by
  unfold wR at e
  split at e
  · cases e; exact f.srN ha
  · cases e
theorem fw_wI {cc j : Nat} {v : Int32} (f : yF O [] c d y u) (e : wI cc j u a v = some u') (ha : yn y ≤ a) : yF O [] c d y u' := by
  unfold wI at e
  split at e
  · cases e; exact f.sfN ha
  · cases e
theorem fw_list (hQ : cst G 50 = some Q) (f : yF O [] c d y u) (e : fy_List_init G u a = some u') (ht : yt u a = some (.inr 16)) (ha : yn y ≤ a) : yF O [] c d y u' := by
  unfold fy_List_init fy_J1_init fy_J0_init at e
  rw [obs, wI_ok ht, obs, obs, hQ, obs, wR_ok (show yt (sF u a 0 0) a = some (.inr 16) from ht), obs] at e
  cases e
  exact (f.sfN ha).srN ha
/-- what it has made, by plain numbers -/
def rdC (c : yS) : Prop := (yn c = 8 ∧ yu c = 208) ∧ (yt c 0 = some (.inr 8) ∧ yr c 0 3 = some 1) ∧ (yt c 1 = some (.inr 1) ∧ (∀ p ∈ [(0, 2), (1, 3), (2, 4), (3, 5), (4, 6), (16, 7)], yr c 1 p.1 = some p.2) ∧ yt c 4 = some (.inl (0, 56)) ∧ yt c 5 = some (.inl (1, 56)) ∧ yt c 6 = some (.inl (1, 56)) ∧ yt c 7 = some (.inl (0, 6)) ∧ yr c 1 5 = none) ∧ (∀ k ∈ [6, 7, 8, 9, 10, 11, 12, 13, 14, 15], yf c 1 k = if k = 8 then 8 else if k = 9 then 6 else 0) ∧ (∀ l ∈ [2, 3], yt c l = some (.inr 16) ∧ yf c l 2 = 0 ∧ yr c l 1 = some 1000000) ∧ yf c 0 5 = 0 ∧ (∀ a ∈ [4, 5, 6, 7], ya c a = fun _ => 0)
theorem c_rinit0 (hQ : cst G 50 = some Q) (hX : X = yn y) (r0 : rlY X Q B (nO yZ 8) u) (f0 : yF O [] 1 11 y u) (A F : Nat) (nn : Int32) : ∃ c u', rlY X Q B c u' ∧ rdC c ∧ yF O [] 8 208 y u' ∧ fy_Reader_init G u (X + 0) A nn F = (wR 8 0 u' (X + 0) (some A)).bind fun s17 => (wI 8 1 s17 (X + 0) nn).bind fun s22 => (wR 8 2 s22 (X + 0) (some F)).bind fun s27 => some s27 := by
  obtain ⟨u1, e1, r1⟩ := st_mk r0 1 (k := 1) rfl
  have f1 := fw_mk f0 e1
  obtain ⟨u2, e2, r2⟩ := st_mk r1 16 (k := 2) rfl
  have f2 := fw_mk f1 e2
  obtain ⟨u3, e3, r3⟩ := st_list hQ r2 (a := 2) rfl (by decide)
  have f3 := fw_list hQ f2 e3 (r2.t rfl (by decide)) (by omega)
  obtain ⟨u4, e4, r4⟩ := st_wR r3 (cc := 1) 0 (a := 1) (b := 2) rfl (by decide) (by decide)
  have f4 := fw_wR f3 e4 (by omega)
  obtain ⟨u5, e5, r5⟩ := st_mk r4 16 (k := 3) rfl
  have f5 := fw_mk f4 e5
  obtain ⟨u6, e6, r6⟩ := st_list hQ r5 (a := 3) rfl (by decide)
  have f6 := fw_list hQ f5 e6 (r5.t rfl (by decide)) (by omega)
  obtain ⟨u7, e7, r7⟩ := st_wR r6 (cc := 1) 1 (a := 1) (b := 3) rfl (by decide) (by decide)
  have f7 := fw_wR f6 e7 (by omega)
  obtain ⟨u8, e8, r8⟩ := st_mka r7 0 (z := 56) (k := 4) (by omega) (by omega) rfl
  have f8 := fw_mka f7 e8 (by omega) (by omega)
  obtain ⟨u9, e9, r9⟩ := st_wR r8 (cc := 1) 2 (a := 1) (b := 4) rfl (by decide) (by decide)
  have f9 := fw_wR f8 e9 (by omega)
  obtain ⟨u10, e10, r10⟩ := st_mka r9 1 (z := 56) (k := 5) (by omega) (by omega) rfl
  have f10 := fw_mka f9 e10 (by omega) (by omega)
  obtain ⟨u11, e11, r11⟩ := st_wR r10 (cc := 1) 3 (a := 1) (b := 5) rfl (by decide) (by decide)
  have f11 := fw_wR f10 e11 (by omega)
  obtain ⟨u12, e12, r12⟩ := st_mka r11 1 (z := 56) (k := 6) (by omega) (by omega) rfl
  have f12 := fw_mka f11 e12 (by omega) (by omega)
  obtain ⟨u13, e13, r13⟩ := st_wR r12 (cc := 1) 4 (a := 1) (b := 6) rfl (by decide) (by decide)
  have f13 := fw_wR f12 e13 (by omega)
  obtain ⟨u14, e14, r14⟩ := st_wI r13 (cc := 1) 8 (a := 1) 8 rfl (by decide)
  have f14 := fw_wI f13 e14 (by omega)
  obtain ⟨u15, e15, r15⟩ := st_wI r14 (cc := 1) 9 (a := 1) 6 rfl (by decide)
  have f15 := fw_wI f14 e15 (by omega)
  obtain ⟨u16, e16, r16⟩ := st_mka r15 0 (z := 6) (k := 7) (by omega) (by omega) rfl
  have f16 := fw_mka f15 e16 (by omega) (by omega)
  obtain ⟨u17, e17, r17⟩ := st_wR r16 (cc := 1) 16 (a := 1) (b := 7) rfl (by decide) (by decide)
  have f17 := fw_wR f16 e17 (by omega)
  obtain ⟨u18, e18, r18⟩ := st_wR r17 (cc := 8) 3 (a := 0) (b := 1) rfl (by decide) (by decide)
  have f18 := fw_wR f17 e18 (by omega)
  refine ⟨_, u18, r18, ⟨⟨rfl, rfl⟩, ⟨rfl, rfl⟩, ⟨rfl, by decide, rfl, rfl, rfl, rfl, rfl⟩, by decide, by decide, rfl, ?_⟩, f18, ?_⟩
  · intro a ha
    simp only [List.mem_cons, List.not_mem_nil, or_false] at ha
    rcases ha with rfl | rfl | rfl | rfl <;> rfl
  unfold fy_Reader_init fy_River_init
  simp only [iI_lit] at *
  simp only [e1, e2, e3, e4, e5, e6, e7, e8, e9, e10, e11, e12, e13, e14, e15, e16, e17, e18, obs]
end O2

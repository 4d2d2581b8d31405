/-! LAYER 3: the constructor: steps -/
set_option maxRecDepth 100000
section K4
variable {G : ai_G} {X Q B : Nat} {c u : yS}
theorem st_mk (h : rlY X Q B c u) (t : Nat) {k : Nat} (hk : yn c = k) : ∃ u', mk t u = some (X + k, u') ∧ rlY X Q B (nO c t) u' := ⟨nO u t, by unfold mk; rw [h.1, hk], h.nO t⟩
theorem st_mka (h : rlY X Q B c u) (kd : Nat) {z : Int} {k : Nat} (h1 : 0 ≤ z) (h2 : z ≤ 65536) (hk : yn c = k) : ∃ u', mka kd u (iI z) = some (X + k, u') ∧ rlY X Q B (nA c kd z.toNat) u' := ⟨nA u kd z.toNat, by rw [mka_i h1 h2, h.1, hk], h.nA kd _⟩
theorem st_wR (h : rlY X Q B c u) {cc : Nat} (j : Nat) {a b : Nat} (ht : yt c a = some (.inr cc)) (ha : a < yn c) (hb : ¬ b = 1000000) : ∃ u', wR cc j u (X + a) (some (X + b)) = some u' ∧ rlY X Q B (sR c a j (some b)) u' := by
  refine ⟨_, wR_ok (h.t ht ha), ?_⟩
  have := h.sR a j (some b)
  rw [show (some b).map (shA X Q) = some (X + b) by show some (shA X Q b) = _; unfold shA; rw [if_neg hb]] at this
  exact this
theorem st_wQ (h : rlY X Q B c u) {cc : Nat} (j : Nat) {a : Nat} (ht : yt c a = some (.inr cc)) (ha : a < yn c) : ∃ u', wR cc j u (X + a) (some Q) = some u' ∧ rlY X Q B (sR c a j (some 1000000)) u' := by
  refine ⟨_, wR_ok (h.t ht ha), ?_⟩
  have := h.sR a j (some 1000000)
  rw [show (some 1000000).map (shA X Q) = some Q by show some (shA X Q 1000000) = _; unfold shA; rw [if_pos rfl]] at this
  exact this
theorem st_wN (h : rlY X Q B c u) {cc : Nat} (j : Nat) {a : Nat} (ht : yt c a = some (.inr cc)) (ha : a < yn c) : ∃ u', wR cc j u (X + a) none = some u' ∧ rlY X Q B (sR c a j none) u' := ⟨_, wR_ok (h.t ht ha), h.sR a j none⟩
theorem st_wI (h : rlY X Q B c u) {cc : Nat} (j : Nat) {a : Nat} (v : Int32) (ht : yt c a = some (.inr cc)) (ha : a < yn c) : ∃ u', wI cc j u (X + a) v = some u' ∧ rlY X Q B (sF c a j v) u' := ⟨_, wI_ok (h.t ht ha), h.sF a j v⟩
theorem st_ck (h : rlY X Q B c u) {cc : Nat} {a : Nat} (ht : yt c a = some (.inr cc)) (ha : a < yn c) : ck cc u (X + a) = some () := if_pos (h.t ht ha)
theorem st_list (hQ : cst G 50 = some Q) (h : rlY X Q B c u) {a : Nat} (ht : yt c a = some (.inr 16)) (ha : a < yn c) : ∃ u', fy_List_init G u (X + a) = some u' ∧ rlY X Q B (sR (sF c a 0 0) a 1 (some 1000000)) u' := by
  obtain ⟨u1, e1, r1⟩ := st_wI h 0 0 ht ha
  obtain ⟨u2, e2, r2⟩ := st_wQ r1 1 ht ha
  refine ⟨u2, ?_, r2⟩
  unfold fy_List_init fy_J1_init
  rw [show fy_J0_init G u (X + a) = some () from rfl, obs, e1, obs, obs, hQ, obs, e2, obs]
theorem st_state (h : rlY X Q B c u) {a k : Nat} (ht : yt c a = some (.inr 2)) (ha : a < yn c) (hk : yn c = k) (hk2 : k < 1000) : ∃ u', fy_State_init G u (X + a) = some u' ∧ rlY X Q B (sR (nA (sR (nA (sR (nA (sR (nA (sR (nA (sR (nA c 0 4) a 0 (some k)) 0 4) a 1 (some (k + 1))) 0 4) a 2 (some (k + 2))) 0 4) a 3 (some (k + 3))) 0 4) a 4 (some (k + 4))) 0 7) a 5 (some (k + 5))) u' := by
  have na : ∀ (c : yS) (kd m : Nat), yt c a = some (.inr 2) → a < yn c → yt (nA c kd m) a = some (.inr 2) := fun c kd m h1 h2 => by rw [nA_t, if_neg (by omega)]; exact h1
  have nn : ∀ (c : yS) (kd m : Nat), yn (nA c kd m) = yn c + 1 := fun c kd m => rfl
  have ns : ∀ (c : yS) (a j : Nat) (v : Option Nat), yn (sR c a j v) = yn c := fun c a j v => rfl
  have ts : ∀ (c : yS) (b j : Nat) (v : Option Nat), yt c a = some (.inr 2) → yt (sR c b j v) a = some (.inr 2) := fun c b j v h => h
  obtain ⟨u1, e1, r1⟩ := st_mka h 0 (z := 4) (by omega) (by omega) hk
  have t1 := na c 0 4 ht ha
  obtain ⟨u2, e2, r2⟩ := st_wR r1 0 (b := k) t1 (by rw [nn]; omega) (by omega)
  obtain ⟨u3, e3, r3⟩ := st_mka r2 0 (z := 4) (k := k + 1) (by omega) (by omega) (by rw [ns, nn, hk])
  have t3 := na _ 0 4 (ts _ a 0 (some k) t1) (by rw [ns, nn]; omega)
  obtain ⟨u4, e4, r4⟩ := st_wR r3 1 (b := k + 1) t3 (by simp only [nn, ns]; omega) (by omega)
  obtain ⟨u5, e5, r5⟩ := st_mka r4 0 (z := 4) (k := k + 2) (by omega) (by omega) (by simp only [nn, ns, hk])
  have t5 := na _ 0 4 (ts _ a 1 (some (k + 1)) t3) (by simp only [nn, ns]; omega)
  obtain ⟨u6, e6, r6⟩ := st_wR r5 2 (b := k + 2) t5 (by simp only [nn, ns]; omega) (by omega)
  obtain ⟨u7, e7, r7⟩ := st_mka r6 0 (z := 4) (k := k + 3) (by omega) (by omega) (by simp only [nn, ns, hk])
  have t7 := na _ 0 4 (ts _ a 2 (some (k + 2)) t5) (by simp only [nn, ns]; omega)
  obtain ⟨u8, e8, r8⟩ := st_wR r7 3 (b := k + 3) t7 (by simp only [nn, ns]; omega) (by omega)
  obtain ⟨u9, e9, r9⟩ := st_mka r8 0 (z := 4) (k := k + 4) (by omega) (by omega) (by simp only [nn, ns, hk])
  have t9 := na _ 0 4 (ts _ a 3 (some (k + 3)) t7) (by simp only [nn, ns]; omega)
  obtain ⟨v1, d1, q1⟩ := st_wR r9 4 (b := k + 4) t9 (by simp only [nn, ns]; omega) (by omega)
  obtain ⟨v2, d2, q2⟩ := st_mka q1 0 (z := 7) (k := k + 5) (by omega) (by omega) (by simp only [nn, ns, hk])
  have s2 := na _ 0 7 (ts _ a 4 (some (k + 4)) t9) (by simp only [nn, ns]; omega)
  obtain ⟨v3, d3, q3⟩ := st_wR q2 5 (b := k + 5) s2 (by simp only [nn, ns]; omega) (by omega)
  refine ⟨v3, ?_, q3⟩
  unfold fy_State_init
  rw [show (4 : Int32) = iI 4 from rfl, show (7 : Int32) = iI 7 from rfl, e1, obs]
  simp only
  rw [e2, obs, e3, obs]
  simp only
  rw [e4, obs, e5, obs]
  simp only
  rw [e6, obs, e7, obs]
  simp only
  rw [e8, obs, e9, obs]
  simp only
  rw [d1, obs, d2, obs]
  simp only
  rw [d3, obs]
end K4

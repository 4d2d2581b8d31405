/-! LAYER 3: mooring: the model -/
set_option maxRecDepth 100000
theorem dgB_d9 (n : Nat) (v : Int) : d9 (dgB 9 n v) := fun i => dgB_b (by omega) v i
section H1
variable {ρ : Rv} {s : mS} {x D : Int → Int}
theorem m_betweenAll (hR : okR ρ s) (hw : wfR ρ) (ha : ar s 22 28 x) (hx : wfS ρ x) (hD : d9 D) (a33 : ∀ j : Nat, (j : Int) < rB ρ → s.2.2.1 33 j = iI (D j)) : fm_betweenAll s = some (iI (btM x D (rB ρ).toNat)) := by
  have hB := hw.2.2.1
  have hC := hw.1
  have e48 : s.1 48 = iI (rB ρ) := hR.2.2.1
  have : lp (fm_betweenAll_b4 s) (0, 0) = some (iI (btM x D (rB ρ).toNat)) := by
    refine lp_seq (fun i => (iI (btM x D i), iI i)) (rB ρ).toNat (fun i hi => ?_) ?_
    · have hd := hD i
      have hb := btM_b hw hx hD i (by omega)
      have hxj := hx.1 i (by omega) (by omega)
      have h33 : s.2.2.1 33 (i : Int).toNat = iI (D i) := by rw [Int.toNat_natCast]; exact a33 i (by omega)
      have h22 : s.2.2.1 22 (i : Int).toNat = iI (x i) := ha i (by omega) (by omega)
      simp (disch := omega) only [fm_betweenAll_b4, e48, iI_lit, iI_add, iI_sub, iI_mul, iI_neg, obs, if_true, if_false, Int.reduceEq, Int.reduceLE, Int.reduceLT, Int.reduceAdd, Int.reduceSub, Int.reduceMul, Int.reduceNeg, Nat.reduceEqDiff, iI_le, iI_lt, iI_eq, ld_i, sto_i, h33, h22, m_plain, btM]
      rw [if_neg (by omega)]
      by_cases h8 : D i = 8
      · simp only [if_pos h8]; rfl
      · simp only [if_neg h8]; rfl
    · simp (disch := omega) only [fm_betweenAll_b4, e48, iI_lit, iI_add, iI_sub, iI_mul, iI_neg, obs, if_true, if_false, Int.reduceEq, Int.reduceLE, Int.reduceLT, Int.reduceAdd, Int.reduceSub, Int.reduceMul, Int.reduceNeg, Nat.reduceEqDiff, iI_le, iI_lt, iI_eq]
      rw [if_pos (by omega)]
  unfold fm_betweenAll
  rw [this, obs]
theorem m_layMooring (hR : okR ρ s) (hw : wfR ρ) (hx : wfS ρ x) (a32 : ∀ j : Nat, (j : Int) < rB ρ → s.2.2.1 32 j = iI (mooS ρ x j)) (hM : ∀ b, 0 ≤ b → b < rB ρ → 0 ≤ mooS ρ x b ∧ mooS ρ x b < 256) {v : Int} (hv : 0 ≤ v) (hv2 : v < 100000) : ∃ s', fm_layMooring s (iI v) = some (iI (if okM ρ x (dgB 9 (rB ρ).toNat v) (rB ρ).toNat = 1 then mnM (dgB 9 (rB ρ).toNat v) (rB ρ).toNat else -1), s') ∧ fr [] [33] s s' ∧ (okM ρ x (dgB 9 (rB ρ).toNat v) (rB ρ).toNat = 1 → ∀ j : Nat, (j : Int) < rB ρ → s'.2.2.1 33 j = iI (dgB 9 (rB ρ).toNat v j)) := by
  have hB := hw.2.2.1
  have hD := dgB_d9 (rB ρ).toNat v
  generalize hDd : dgB 9 (rB ρ).toNat v = D at *
  generalize hLn : (rB ρ).toNat = L at *
  have hLi : (L : Int) = rB ρ := by omega
  have hloop : ∃ q, lp fm_layMooring_b15 (iI v, iI 0, iI 0, iI (rB ρ - 1), s) = some q ∧ ((∃ σ, q = .inl (iI (mnM D L), σ) ∧ fr [] [33] s σ ∧ (∀ j : Nat, (j : Int) < rB ρ → σ.2.2.1 33 j = iI (D j)) ∧ okM ρ x D L = 1) ∨ (∃ σ, q = .inr (iI (-1), σ) ∧ fr [] [33] s σ ∧ okM ρ x D L = 0)) := by
    refine lp_inv (fun i q => ∃ S σ, q = (iI (v / 9 ^ i), iI S, iI (mnM D L - mnM D (L - i)), iI (rB ρ - 1 - i), σ) ∧ (0 ≤ S ∧ S < 256) ∧ (∀ c, 0 ≤ c → c < 8 → (bit S c = 1 ↔ ∃ j : Nat, L - i ≤ j ∧ j < L ∧ D j = c)) ∧ fr [] [33] s σ ∧ (∀ j : Nat, L - i ≤ j → j < L → σ.2.2.1 33 j = iI (D j)) ∧ ∀ j : Nat, L - i ≤ j → j < L → (D j = 8 ∨ (bit (mooS ρ x j) (D j) = 1 ∧ ∀ k : Nat, j < k → k < L → ¬ D k = D j))) L ?_ ?_ ⟨0, s, ?_, ⟨by omega, by omega⟩, fun c c1 c2 => ?_, fr.refl, fun j j1 j2 => by omega, fun j j1 j2 => by omega⟩
    · rintro i q hi ⟨S, σ, rfl, ⟨S1, S2⟩, hbit, fσ, aσ, hvd⟩
      have hp : (0 : Int) < 9 ^ i := Int.pow_pos (by omega)
      have hd0 : 0 ≤ v / 9 ^ i := Int.ediv_nonneg hv (by omega)
      have hd1 : v / 9 ^ i ≤ v := Int.ediv_le_self _ hv
      have hRσ := hR.fr fσ rfl rfl
      obtain ⟨j, hj⟩ : ∃ j : Nat, j = L - 1 - i := ⟨_, rfl⟩
      have hjl : j < L := by omega
      have hji : ((j : Nat) : Int) = rB ρ - 1 - i := by omega
      have hdj : D j = v / 9 ^ i % 9 := by
        rw [← hDd]
        unfold dgB
        rw [Int.toNat_natCast, show L - 1 - j = i by omega]
        rfl
      have hdd := hD j
      have hMj := hM j (by omega) (by omega)
      have erm := rm_i (a := v / 9 ^ i) (b := 9) hd0 (by omega) (by omega) (by omega)
      have edv := dv_i (a := v / 9 ^ i) (b := 9) hd0 (by omega) (by omega) (by omega)
      have hdiv : v / 9 ^ i / 9 = v / 9 ^ (i + 1) := by rw [Int.pow_succ, Int.ediv_ediv_of_nonneg (by omega)]
      have h32 : σ.2.2.1 32 (j : Int).toNat = iI (mooS ρ x j) := by rw [Int.toNat_natCast, fσ.a 32 rfl]; exact a32 j (by omega)
      have hmj : mnM D (L - i) = mnM D (L - (i + 1)) + if D j = 8 then 0 else 1 := by
        rw [show L - i = j + 1 by omega, show L - (i + 1) = j by omega]; rfl
      have hm1 := mnM_b D L
      have hm2 := mnM_b D (L - i)
      have g33 : (aw σ 33 (j : Int).toNat (iI (D j))).2.2.1 33 (j : Int).toNat = iI (D j) := by rw [aw_get, if_pos ⟨rfl, rfl⟩]
      have g32 : (aw σ 33 (j : Int).toNat (iI (D j))).2.2.1 32 (j : Int).toNat = iI (mooS ρ x j) := by rw [aw_get, if_neg (by omega)]; exact h32
      have hbody : fm_layMooring_b15 (iI (v / 9 ^ i), iI S, iI (mnM D L - mnM D (L - i)), iI (rB ρ - 1 - i), σ) = if D j = 8 then some (.inl (iI (v / 9 ^ (i + 1)), iI S, iI (mnM D L - mnM D (L - i)), iI (rB ρ - 1 - (i + 1)), aw σ 33 (j : Int).toNat (iI (D j)))) else if bit (mooS ρ x j) (D j) = 0 then some (.inr (.inr (iI (-1), aw σ 33 (j : Int).toNat (iI (D j))))) else if bit S (D j) = 1 then some (.inr (.inr (iI (-1), aw σ 33 (j : Int).toNat (iI (D j))))) else some (.inl (iI (v / 9 ^ (i + 1)), iI (orb S (D j)), iI (mnM D L - mnM D (L - i) + 1), iI (rB ρ - 1 - (i + 1)), aw σ 33 (j : Int).toNat (iI (D j)))) := by
        have e27 : iI (j : Int) + iI (-1) = iI (rB ρ - 1 - (↑i + 1)) := by rw [iI_add]; congr 1; omega
        rw [← hji]
        unfold fm_layMooring_b15
        simp (disch := omega) only [iI_lit, iI_neg, if_true, if_false, iI_le, iI_lt, iI_eq]
        rw [if_neg (by omega), erm, obs, ← hdj, sto_w (by omega) (by omega) (by omega), obs, edv, obs, hdiv, ld_i (by omega) (by omega) (by omega), obs, g33, e27]
        by_cases h8 : D j = 8
        · rw [if_pos h8, if_pos (by rw [h8])]
        · have b0 := bit_01 (mooS ρ x j) (D j)
          have b1 := bit_01 S (D j)
          rw [if_neg h8, if_neg (by rw [iI_eq (by omega) (by omega) (by omega) (by omega)]; exact h8), ld_i (by omega) (by omega) (by omega), obs, obs, g32, bit_i (by omega) (by omega) hMj.1 hMj.2]
          by_cases c1 : bit (mooS ρ x j) (D j) = 0
          · rw [if_pos c1, if_pos (by rw [c1])]
          · rw [if_neg c1, if_neg (by rw [iI_eq (by omega) (by omega) (by omega) (by omega)]; exact c1), obs, bit_i (by omega) (by omega) S1 S2]
            by_cases c2 : bit S (D j) = 1
            · rw [if_pos c2, if_pos (by rw [c2])]
            · rw [if_neg c2, if_neg (by rw [iI_eq (by omega) (by omega) (by omega) (by omega)]; exact c2), obs, (orb_i (by omega) (by omega) S1 S2).1, iI_add]
      have fσ' : fr [] [33] s (aw σ 33 (j : Int).toNat (iI (D j))) := fσ.aw rfl
      have hjL : ∀ k : Nat, L - (i + 1) ≤ k → k < L → k = j ∨ L - i ≤ k := fun k k1 k2 => by omega
      have aσ' : ∀ k : Nat, L - (i + 1) ≤ k → k < L → (aw σ 33 (j : Int).toNat (iI (D j))).2.2.1 33 k = iI (D k) := by
        intro k k1 k2
        rw [aw_get, Int.toNat_natCast]
        by_cases hk : k = j
        · rw [if_pos ⟨rfl, hk⟩, hk]
        · rw [if_neg (by omega)]
          exact aσ k (by omega) k2
      rw [hbody]
      by_cases h8 : D j = 8
      · left
        rw [if_pos h8] at hmj
        refine ⟨_, by rw [if_pos h8], S, _, by rw [hmj, Int.add_zero]; rfl, ⟨S1, S2⟩, fun c q1 q2 => ?_, fσ', aσ', fun k k1 k2 => ?_⟩
        · rw [hbit c q1 q2]
          constructor
          · rintro ⟨k, k1, k2, k3⟩; exact ⟨k, by omega, k2, k3⟩
          · rintro ⟨k, k1, k2, k3⟩
            rcases hjL k k1 k2 with rfl | k5
            · omega
            · exact ⟨k, k5, k2, k3⟩
        · rcases hjL k k1 k2 with rfl | k5
          · exact Or.inl h8
          · exact hvd k k5 k2
      · rw [if_neg h8] at hmj
        by_cases c1 : bit (mooS ρ x j) (D j) = 0
        · right
          refine ⟨_, by rw [if_neg h8, if_pos c1], Or.inr ⟨_, rfl, fσ', ?_⟩⟩
          rcases okM_01 (ρ := ρ) (x := x) (D := D) L with z | z
          · exact z
          · exfalso
            rcases (okM_iff hD L).mp z j hjl with w | ⟨w, -⟩ <;> omega
        · by_cases c2 : bit S (D j) = 1
          · right
            refine ⟨_, by rw [if_neg h8, if_neg c1, if_pos c2], Or.inr ⟨_, rfl, fσ', ?_⟩⟩
            rcases okM_01 (ρ := ρ) (x := x) (D := D) L with z | z
            · exact z
            · exfalso
              obtain ⟨k, k1, k2, k3⟩ := (hbit (D j) hdd.1 (by omega)).mp c2
              rcases (okM_iff hD L).mp z k k2 with w | ⟨-, w⟩
              · omega
              · exact w j (by omega) k3.symm
          · left
            have b0 := bit_01 (mooS ρ x j) (D j)
            have ho := orb8 S1 S2 hdd.1 (by omega)
            have ho2 := (orb_i (S := S) (l := D j) (by omega) (by omega) S1 S2).2
            refine ⟨_, by rw [if_neg h8, if_neg c1, if_neg c2], orb S (D j), _, by rw [hmj, show mnM D L - (mnM D (L - (i + 1)) + 1) + 1 = mnM D L - mnM D (L - (i + 1)) by omega]; rfl, ho2, fun c q1 q2 => ?_, fσ', aσ', fun k k1 k2 => ?_⟩
            · rw [ho c q1 q2]
              by_cases hc : c = D j
              · rw [if_pos hc]
                exact ⟨fun _ => ⟨j, by omega, hjl, hc.symm⟩, fun _ => rfl⟩
              · rw [if_neg hc, hbit c q1 q2]
                constructor
                · rintro ⟨k, k1, k2, k3⟩; exact ⟨k, by omega, k2, k3⟩
                · rintro ⟨k, k1, k2, k3⟩
                  rcases hjL k k1 k2 with rfl | k5
                  · exact absurd k3.symm hc
                  · exact ⟨k, k5, k2, k3⟩
            · rcases hjL k k1 k2 with rfl | k5
              · refine Or.inr ⟨by omega, fun k k1 k2 hq => ?_⟩
                exact c2 ((hbit _ hdd.1 (by omega)).mpr ⟨k, by omega, k2, hq⟩)
              · exact hvd k k5 k2
    · rintro q ⟨S, σ, rfl, hS, hbit, fσ, aσ, hvd⟩
      refine ⟨.inl (iI (mnM D L), σ), ?_, Or.inl ⟨σ, rfl, fσ, fun j hj => aσ j (by omega) (by omega), ?_⟩⟩
      · simp (disch := omega) only [fm_layMooring_b15, iI_lit, iI_add, iI_sub, iI_mul, iI_neg, obs, if_true, if_false, Int.reduceEq, Int.reduceLE, Int.reduceLT, Int.reduceAdd, Int.reduceSub, Int.reduceMul, Int.reduceNeg, Nat.reduceEqDiff, iI_le, iI_lt, iI_eq]
        rw [if_pos (by omega), Nat.sub_self]
        show some (Sum.inr (Sum.inl (iI (mnM D L - 0), σ))) = _
        rw [Int.sub_zero]
      · refine (okM_iff hD L).mpr (fun i hi => ?_)
        rcases hvd i (by omega) hi with z | ⟨z, -⟩
        · exact Or.inl z
        · by_cases h8 : D i = 8
          · exact Or.inl h8
          · refine Or.inr ⟨z, fun k hk hq => ?_⟩
            rcases hvd k (by omega) (by omega) with w | ⟨-, w⟩
            · omega
            · exact w i hk hi hq.symm
    · rw [Int.pow_zero, Int.ediv_one, show rB ρ - 1 - ((0 : Nat) : Int) = rB ρ - 1 by omega, Nat.sub_zero, Int.sub_self]
    · constructor
      · intro z
        have : bit 0 c = 0 := by unfold bit; simp
        omega
      · rintro ⟨k, k1, k2, -⟩; omega
  obtain ⟨q, eq, hq⟩ := hloop
  have e0 : fm_layMooring s (iI v) = (lp fm_layMooring_b15 (iI v, iI 0, iI 0, iI (rB ρ - 1), s)).bind (Sum.elim (fun q15 => some (q15.1, q15.2)) (fun q15r => some q15r)) := by
    unfold fm_layMooring
    rw [hR.2.2.1, i1, iI_sub]
    rfl
  rw [e0, eq, obs]
  rcases hq with ⟨σ, rfl, fσ, aσ, h1⟩ | ⟨σ, rfl, fσ, h0⟩
  · exact ⟨σ, by rw [if_pos h1]; rfl, fσ, fun _ => aσ⟩
  · refine ⟨σ, ?_, fσ, fun z => by omega⟩
    rw [if_neg (by omega)]
    rfl
end H1

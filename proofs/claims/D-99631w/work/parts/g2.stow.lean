/-! LAYER 3: stowing: the model -/
set_option maxRecDepth 100000
theorem dgB_b {B n : Nat} (hB : 0 < B) (v i : Int) : 0 ≤ dgB B n v i ∧ dgB B n v i < B := by
  unfold dgB
  exact ⟨Int.emod_nonneg _ (by omega), Int.emod_lt_of_pos _ (by omega)⟩
theorem dgB_d4 (n : Nat) (v : Int) : d4 (dgB 4 n v) := fun i => dgB_b (by omega) v i
section G2
variable {ρ : Rv} {s : mS} {x : Int → Int}
theorem m_stowBy (hR : okR ρ s) (hw : wfR ρ) (ha : ar s 22 28 x) (hx : wfS ρ x) {v : Int} (hv : 0 ≤ v) (hv2 : v < 100000) : ∃ s', fm_stowBy s (iI (atS ρ x (-1))) (iI v) = some (iI (if okN ρ x (dgB 4 (rL ρ).toNat v) (rL ρ).toNat = 1 then usN x (dgB 4 (rL ρ).toNat v) (rL ρ).toNat else -1), s') ∧ fr [] [23] s s' ∧ (okN ρ x (dgB 4 (rL ρ).toNat v) (rL ρ).toNat = 1 → ar s' 23 28 (mvX ρ x (dgB 4 (rL ρ).toNat v))) := by
  have hl := hw.2.2.2.1
  have hB := hw.2.2.1
  have hab := atS_b hw x (-1)
  obtain ⟨s1, e1, f1, a1⟩ := m_fill ha
  have hR1 := hR.fr f1 rfl rfl
  have hD := dgB_d4 (rL ρ).toNat v
  generalize hDd : dgB 4 (rL ρ).toNat v = D at *
  generalize hLn : (rL ρ).toNat = L at *
  have hLi : (L : Int) = rL ρ := by omega
  have hbad : ∀ j : Nat, j < L → ¬ vdN ρ x D j → okN ρ x D L = 0 := by
    intro j hj hq
    rcases okN_01 (ρ := ρ) (x := x) (D := D) L with z | z
    · exact z
    · exact absurd (okN_fw L z j hj).1 hq
  have hloop : ∃ q, lp (fm_stowBy_b17 (iI (atS ρ x (-1)))) (iI v, iI 0, iI (rL ρ - 1), s1) = some q ∧ ((∃ S σ, q = .inl (iI S, σ) ∧ (0 ≤ S ∧ S < 16) ∧ (∀ c, 0 ≤ c → c < 4 → (bit S c = 1 ↔ ∃ j : Nat, j < L ∧ x (20 + j) = -1 ∧ D j = c)) ∧ fr [] [23] s σ ∧ ar σ 23 28 (mvX ρ x D) ∧ ∀ j : Nat, j < L → vdN ρ x D j) ∨ (∃ σ, q = .inr (iI (-1), σ) ∧ fr [] [23] s σ ∧ okN ρ x D L = 0)) := by
    refine lp_inv (fun i q => ∃ S σ, q = (iI (v / 4 ^ i), iI S, iI (rL ρ - 1 - i), σ) ∧ (0 ≤ S ∧ S < 16) ∧ (∀ c, 0 ≤ c → c < 4 → (bit S c = 1 ↔ ∃ j : Nat, L - i ≤ j ∧ j < L ∧ x (20 + j) = -1 ∧ D j = c)) ∧ fr [] [23] s σ ∧ ar σ 23 28 (fun z => if 20 + rL ρ - i ≤ z ∧ z < 20 + rL ρ ∧ x z = -1 then D (z - 20) else x z) ∧ ∀ j : Nat, L - i ≤ j → j < L → vdN ρ x D j) L ?_ ?_ ⟨0, s1, ?_, ⟨Int.le_refl _, by omega⟩, fun c c1 c2 => ?_, f1, fun z z1 z2 => ?_, fun j j1 j2 => by omega⟩
    · rintro i q hi ⟨S, σ, rfl, ⟨S1, S2⟩, hbit, fσ, aσ, hvd⟩
      have hp : (0 : Int) < 4 ^ i := Int.pow_pos (by omega)
      have hd0 : 0 ≤ v / 4 ^ i := Int.ediv_nonneg hv (by omega)
      have hd1 : v / 4 ^ i ≤ v := Int.ediv_le_self _ hv
      have hRσ := hR.fr fσ rfl rfl
      have haσ := fσ.ar ha rfl
      obtain ⟨j, hj⟩ : ∃ j : Nat, j = L - 1 - i := ⟨_, rfl⟩
      have hjl : j < L := by omega
      have hji : ((j : Nat) : Int) = rL ρ - 1 - i := by omega
      have hdj : D j = v / 4 ^ i % 4 := by
        rw [← hDd]
        unfold dgB
        rw [Int.toNat_natCast, show L - 1 - j = i by omega]
        rfl
      have hnb : bit (atS ρ x (-1)) (rL ρ - 1 - i) = if x (20 + j) = -1 then 1 else 0 := by
        have := near_bit hw x (-1) (k := j) (by omega)
        rw [← hji]
        exact this
      have hdd := hD j
      have e48 : σ.1 48 = iI (rB ρ) := hRσ.2.2.1
      have erm := rm_i (a := v / 4 ^ i) (b := 4) hd0 (by omega) (by omega) (by omega)
      have edv := dv_i (a := v / 4 ^ i) (b := 4) hd0 (by omega) (by omega) (by omega)
      have hdiv : v / 4 ^ i / 4 = v / 4 ^ (i + 1) := by rw [Int.pow_succ, Int.ediv_ediv_of_nonneg (by omega)]
      have hbody : fm_stowBy_b17 (iI (atS ρ x (-1))) (iI (v / 4 ^ i), iI S, iI (rL ρ - 1 - i), σ) = if x (20 + j) = -1 then (if rB ρ ≤ D j then some (.inr (.inr (iI (-1), σ))) else if x (4 + D j) ≤ 0 then some (.inl (iI (v / 4 ^ (i + 1)), iI (orb S (D j)), iI (rL ρ - 1 - (i + 1)), aw σ 23 (20 + (j : Int)).toNat (iI (D j)))) else some (.inr (.inr (iI (-1), σ)))) else (if D j ≤ 0 then some (.inl (iI (v / 4 ^ (i + 1)), iI S, iI (rL ρ - 1 - (i + 1)), σ)) else some (.inr (.inr (iI (-1), σ)))) := by
        have e27 : iI (rL ρ - 1 - ↑i) + iI (-1) = iI (rL ρ - 1 - (↑i + 1)) := by rw [iI_add]; congr 1; omega
        unfold fm_stowBy_b17
        simp (disch := omega) only [iI_lit, iI_add, iI_sub, iI_mul, iI_neg, obs, if_true, if_false, Int.reduceEq, Int.reduceLE, Int.reduceLT, Int.reduceAdd, Int.reduceSub, Int.reduceMul, Int.reduceNeg, Nat.reduceEqDiff, iI_le, iI_lt, iI_eq]
        rw [if_neg (by omega), erm, obs, edv, obs, ← hdj, hdiv, bit_i (by omega) (by omega) hab.1 (by omega), hnb]
        simp (disch := omega) only [e48, iI_le, iI_lt, iI_eq, iI_lit, iI_add, iI_sub, iI_mul, iI_neg, obs, if_true, if_false, Int.reduceEq, Int.reduceLE, Int.reduceLT, Int.reduceAdd, Int.reduceSub, Int.reduceMul, Int.reduceNeg, Nat.reduceEqDiff]
        by_cases hn : x (20 + j) = -1
        · rw [if_pos hn, if_pos hn, if_neg (by decide)]
          by_cases c1 : rB ρ ≤ D j
          · rw [if_pos c1, if_pos c1]
          · have hxd := hx.1 (D j) hdd.1 (by omega)
            have a4 : σ.2.2.1 22 (4 + D j).toNat = iI (x (4 + D j)) := haσ (4 + D j) (by omega) (by omega)
            have ho := orb_i (S := S) (l := D j) (by omega) (by omega) S1 (by omega)
            have hr := hw.2.1
            simp (disch := omega) only [if_neg c1, ld_i, a4, obs, iI_le, iI_lt, iI_eq, sto_w, ho.1]
            by_cases c2 : x (4 + D j) ≤ 0
            · rw [if_pos c2, if_pos c2, show rL ρ - 1 - (i : Int) + -1 = rL ρ - 1 - ((i : Int) + 1) by omega, show 20 + (rL ρ - 1 - (i : Int)) = 20 + (j : Int) by omega]
            · rw [if_neg c2, if_neg c2]
        · rw [if_neg hn, if_neg hn, if_pos rfl]
          by_cases c1 : D j ≤ 0
          · rw [if_pos c1, if_pos c1, show rL ρ - 1 - (i : Int) + -1 = rL ρ - 1 - ((i : Int) + 1) by omega]
          · rw [if_neg c1, if_neg c1]
      rw [hbody]
      have hjL : ∀ k : Nat, L - (i + 1) ≤ k → k < L → k = j ∨ L - i ≤ k := fun k k1 k2 => by omega
      by_cases hn : x (20 + j) = -1
      · rw [if_pos hn]
        by_cases c1 : rB ρ ≤ D j
        · right
          refine ⟨_, by rw [if_pos c1], Or.inr ⟨σ, rfl, fσ, hbad j hjl (fun z => by have := (z.1 hn).1; omega)⟩⟩
        · rw [if_neg c1]
          have hxd := hx.1 (D j) hdd.1 (by omega)
          by_cases c2 : x (4 + D j) ≤ 0
          · left
            rw [if_pos c2]
            have ho := orb4 S1 S2 hdd.1 hdd.2
            refine ⟨_, rfl, orb S (D j), _, rfl, ⟨ho.1, ho.2.1⟩, fun c q1 q2 => ?_, fσ.aw rfl, fun z z1 z2 => ?_, fun k k1 k2 => ?_⟩
            · rw [ho.2.2.1 c q1 q2]
              by_cases hc : c = D j
              · rw [if_pos hc]
                exact ⟨fun _ => ⟨j, by omega, hjl, hn, hc.symm⟩, fun _ => rfl⟩
              · rw [if_neg hc, hbit c q1 q2]
                constructor
                · rintro ⟨k, k1, k2, k3, k4⟩; exact ⟨k, by omega, k2, k3, k4⟩
                · rintro ⟨k, k1, k2, k3, k4⟩
                  rcases hjL k (by omega) k2 with rfl | k5
                  · exact absurd k4.symm hc
                  · exact ⟨k, k5, k2, k3, k4⟩
            · rw [aw_get]
              simp only
              by_cases hz : z = 20 + j
              · rw [if_pos ⟨trivial, by rw [hz]⟩, if_pos ⟨by omega, by omega, by rw [hz]; exact hn⟩, hz, show 20 + (j : Int) - 20 = j by omega]
              · rw [if_neg (by omega), aσ z z1 z2]
                simp only
                by_cases hq : 20 + rL ρ - i ≤ z ∧ z < 20 + rL ρ ∧ x z = -1
                · rw [if_pos hq, if_pos ⟨by omega, hq.2⟩]
                · rw [if_neg hq, if_neg (fun w => hq ⟨by omega, w.2⟩)]
            · rcases hjL k (by omega) k2 with rfl | k5
              · exact ⟨fun _ => ⟨by omega, by omega⟩, fun z => absurd hn z⟩
              · exact hvd k k5 k2
          · right
            refine ⟨_, by rw [if_neg c2], Or.inr ⟨σ, rfl, fσ, hbad j hjl (fun z => by have := (z.1 hn).2; omega)⟩⟩
      · rw [if_neg hn]
        by_cases c1 : D j ≤ 0
        · left
          rw [if_pos c1]
          refine ⟨_, rfl, S, σ, rfl, ⟨S1, S2⟩, fun c q1 q2 => ?_, fσ, fun z z1 z2 => ?_, fun k k1 k2 => ?_⟩
          · rw [hbit c q1 q2]
            constructor
            · rintro ⟨k, k1, k2, k3, k4⟩; exact ⟨k, by omega, k2, k3, k4⟩
            · rintro ⟨k, k1, k2, k3, k4⟩
              rcases hjL k (by omega) k2 with rfl | k5
              · exact absurd k3 hn
              · exact ⟨k, k5, k2, k3, k4⟩
          · rw [aσ z z1 z2]
            simp only
            by_cases hq : 20 + rL ρ - i ≤ z ∧ z < 20 + rL ρ ∧ x z = -1
            · rw [if_pos hq, if_pos ⟨by omega, hq.2⟩]
            · rw [if_neg hq, if_neg (fun w => hq ⟨by
                by_cases hz : z = 20 + j
                · exfalso
                  rw [hz] at w
                  exact hn w.2.2
                · omega, w.2⟩)]
          · rcases hjL k (by omega) k2 with rfl | k5
            · exact ⟨fun z => absurd z hn, fun _ => by omega⟩
            · exact hvd k k5 k2
        · right
          refine ⟨_, by rw [if_neg c1], Or.inr ⟨σ, rfl, fσ, hbad j hjl (fun z => by have := z.2 hn; omega)⟩⟩
    · rintro q ⟨S, σ, rfl, hS, hbit, fσ, aσ, hvd⟩
      refine ⟨.inl (iI S, σ), ?_, Or.inl ⟨S, σ, rfl, hS, fun c c1 c2 => ?_, fσ, fun z z1 z2 => ?_, fun j hj => hvd j (by omega) hj⟩⟩
      · simp (disch := omega) only [fm_stowBy_b17, iI_lit, iI_add, iI_sub, iI_mul, iI_neg, obs, if_true, if_false, Int.reduceEq, Int.reduceLE, Int.reduceLT, Int.reduceAdd, Int.reduceSub, Int.reduceMul, Int.reduceNeg, Nat.reduceEqDiff, iI_le, iI_lt, iI_eq]
        rw [if_pos (by omega)]
      · rw [hbit c c1 c2]
        constructor
        · rintro ⟨k, k1, k2, k3⟩; exact ⟨k, k2, k3⟩
        · rintro ⟨k, k2, k3⟩; exact ⟨k, by omega, k2, k3⟩
      · rw [aσ z z1 z2]
        unfold mvX
        rw [show 20 + rL ρ - (L : Int) = 20 by omega]
    · rw [Int.pow_zero, Int.ediv_one, show rL ρ - 1 - ((0 : Nat) : Int) = rL ρ - 1 by omega]
    · constructor
      · intro z
        have : bit 0 c = 0 := by unfold bit; simp
        omega
      · rintro ⟨k, k1, k2, -⟩; omega
    · show _ = iI (if 20 + rL ρ - ((0 : Nat) : Int) ≤ z ∧ z < 20 + rL ρ ∧ x z = -1 then D (z - 20) else x z)
      rw [if_neg (by omega)]
      exact a1 z z1 z2
  obtain ⟨q, eq, hq⟩ := hloop
  have e0 : fm_stowBy s (iI (atS ρ x (-1))) (iI v) = (lp (fm_stowBy_b17 (iI (atS ρ x (-1)))) (iI v, iI 0, iI (rL ρ - 1), s1)).bind (Sum.elim (fun q17 => (lp (fm_stowBy_b100 q17.2 q17.1) 0).bind (Sum.elim (fun q100 => some (q17.1, q17.2)) (fun q100r => some q100r))) (fun q17r => some q17r)) := by
    unfold fm_stowBy
    rw [e1, obs, hR1.2.2.2.1, i1, iI_sub]
    rfl
  rw [e0, eq, obs]
  rcases hq with ⟨S, σ, rfl, ⟨S1, S2⟩, hbit, fσ, aσ, hvd⟩ | ⟨σ, rfl, fσ, h0⟩
  · have hRσ := hR.fr fσ rfl rfl
    have e48 : σ.1 48 = iI (rB ρ) := hRσ.2.2.1
    have hmw := mvX_wf hw hx (fun j hj => hvd j (by omega)) hD
    have hSu : S = usN x D L := bits4 S1 S2 (usN_b hD L).1 (usN_b hD L).2 (fun c c1 c2 => by
      have a := hbit c c1 c2
      have b := usN_bit (x := x) hD c1 c2 L
      rcases bit_01 S c with z | z <;> rcases bit_01 (usN x D L) c with w | w
      · rw [z, w]
      · exact absurd (a.mpr (b.mp w)) (by omega)
      · exact absurd (b.mpr (a.mp z)) (by omega)
      · rw [z, w])
    have l2 : ∃ q, lp (fm_stowBy_b100 σ (iI S)) (iI 0) = some q ∧ Sum.elim (fun _ => (iI S, σ)) id q = (iI (if okN ρ x D L = 1 then usN x D L else -1), σ) := by
      refine lp_inv (fun i q => q = iI i ∧ ∀ b : Nat, b < i → bit S b = 1 → burd ρ x b + wsN ρ x D b L ≤ rBW ρ b) (rB ρ).toNat ?_ ?_ ⟨rfl, fun b hb => by omega⟩
      · rintro i q hi ⟨rfl, g2⟩
        have hb := mvX_burd (x := x) (D := D) hw (b := i) (by omega)
        rw [hLn] at hb
        have eb := m_burdenOf hRσ hw aσ hmw (b := i) (by omega) (by omega)
        rw [hb] at eb
        have ew : σ.2.2.1 18 (i : Int).toNat = iI (rBW ρ i) := hRσ.2.2.2.2.2.2.2.2.1 i (by omega) (by omega)
        have hbw := (hw.2.2.2.2.2.2.2.2.2.1 i (by omega) (by omega)).1
        have b0 := bit_01 S i
        have b1 := burd_b hw x i
        have b2 := wsN_b (x := x) (D := D) hw i L (by omega)
        simp (disch := omega) only [fm_stowBy_b100, e48, iI_lit, iI_add, iI_sub, iI_mul, iI_neg, obs, if_true, if_false, Int.reduceEq, Int.reduceLE, Int.reduceLT, Int.reduceAdd, Int.reduceSub, Int.reduceMul, Int.reduceNeg, Nat.reduceEqDiff, iI_le, iI_lt, iI_eq, bit_i, eb, ld_i, sto_i, ew]
        rw [if_neg (by omega)]
        by_cases c1 : bit S i = 1
        · rw [if_pos c1]
          by_cases c2 : burd ρ x i + wsN ρ x D i L ≤ rBW ρ i
          · rw [if_pos c2]
            left
            refine ⟨_, rfl, rfl, fun b hb1 hb2 => ?_⟩
            by_cases hbi : b = i
            · subst hbi; exact c2
            · exact g2 b (by omega) hb2
          · rw [if_neg c2]
            right
            refine ⟨_, rfl, ?_⟩
            have : okN ρ x D L = 0 := by
              rcases okN_01 (ρ := ρ) (x := x) (D := D) L with z | z
              · exact z
              · exfalso
                obtain ⟨j, j1, j2, j3⟩ := (hbit i (by omega) (by omega)).mp c1
                have := (okN_fw L z j j1).2 j2
                rw [j3] at this
                exact c2 this
            rw [this]
            rfl
        · rw [if_neg c1]
          left
          refine ⟨_, rfl, rfl, fun b hb1 hb2 => ?_⟩
          by_cases hbi : b = i
          · subst hbi; exact absurd hb2 c1
          · exact g2 b (by omega) hb2
      · rintro q ⟨rfl, g2⟩
        refine ⟨.inl (), ?_, ?_⟩
        · simp (disch := omega) only [fm_stowBy_b100, e48, iI_lit, iI_add, iI_sub, iI_mul, iI_neg, obs, if_true, if_false, Int.reduceEq, Int.reduceLE, Int.reduceLT, Int.reduceAdd, Int.reduceSub, Int.reduceMul, Int.reduceNeg, Nat.reduceEqDiff, iI_le, iI_lt, iI_eq]
          rw [if_pos (by omega)]
        · have : okN ρ x D L = 1 := okN_bw hw L (by omega) (fun j hj => ⟨hvd j hj, fun hn => by
            have hv9 := (hvd j hj).1 hn
            have hdj := hD j
            have hb9 := g2 (D j).toNat (by omega)
            rw [show (((D j).toNat : Nat) : Int) = D j by omega] at hb9
            exact hb9 ((hbit (D j) (by omega) (by omega)).mpr ⟨j, hj, hn, rfl⟩)⟩)
          rw [if_pos this, ← hSu]
          rfl
    obtain ⟨q2, eq2, hq2⟩ := l2
    refine ⟨σ, ?_, fσ, fun _ => aσ⟩
    simp only [Sum.elim_inl]
    rw [show (0 : Int32) = iI 0 from rfl, eq2, obs, ← hq2]
    cases q2 <;> rfl
  · refine ⟨σ, ?_, fσ, fun z => by omega⟩
    rw [if_neg (by omega)]
    rfl
end G2

/-! LAYER 3, the lines: a new name, both sides -/
set_option maxRecDepth 100000
section N7
variable {G : ai_G} {T : Int → Int} {n : Int} {N0 R A F r : Nat} {O O' : Nat → Nat} {y y0 y1 : yS} {s s0 s1 : mS} {τ : Tk} {ν : Lv} {bd le : Nat → Nat} {c d : Nat} {K J L : List Nat}
theorem LZ.fr0 (h : LZ G T n N0 R A F r O y s τ ν bd le) (f : yF O [] c d y y1) : LZ G T n N0 R A F r O y1 s τ ν bd le := by
  obtain ⟨⟨a1, a2, a3⟩, b, cc, dd, e⟩ := h
  have hR := a1.1.2
  have hA := b.2.2.2.2.2.2.2.2.1
  have hF := b.2.2.2.2.2.2.2.1
  have hN := b.2.2.2.2.2.2.2.2.2.1
  refine ⟨⟨a1.fr0 f (by omega) (by omega), a2.fr0 f hR, a3⟩, b, cc.fr f, ?_, e⟩
  exact dd.fr (N' := vN ν) b f rfl (fun k k1 k2 => by rw [f.int (by have := dd.1.2; omega) rfl]; exact dd.2.2.2.1 k k1 k2) rfl rfl
theorem LZ.rel (h : LZ G T n N0 R A F r O y s τ ν bd le) (e : ∀ q, q < yn y → O' q = O q) : LZ G T n N0 R A F r O' y s τ ν bd le := by
  obtain ⟨a, b, cc, dd, ee⟩ := h
  exact ⟨a, b.rel e a.1.1.2 dd.1.2 (by have := a.1.1.2; have := b.2.2.2.2.2.2.2.2.2.1; omega), cc, dd.rel e, ee⟩
/-- a cell that is newer than y0 is written -/
theorem LZ.sfN (h : LZ G T n N0 R A F r O y s τ ν bd le) (h0 : CLr G O r y0 ν bd le) (f : yF O L c d y0 y) (hL : L.all (fun k => !(pCL.contains k)) = true) {b k : Nat} {v : Int32} (hb : yn y0 ≤ b) (hR : ¬ R = b) : LZ G T n N0 R A F r O (sF y b k v) s τ ν bd le := by
  obtain ⟨r1, r2⟩ := RB_set (a := b) (k := k) (v := v) h.1.1 h.1.2.1 hR
  have hr := h0.1.2
  refine ⟨⟨r1, r2, h.1.2.2⟩, h.2.1, h.2.2.1, ?_, h.2.2.2.2⟩
  exact h0.fr (N' := vN ν) h.2.1 (f.sfN hb) hL (fun j j1 j2 => by rw [sF_get, if_neg (by omega)]; exact h.2.2.2.1.2.2.2.1 j j1 j2) rfl rfl
theorem LZ.sjN (h : LZ G T n N0 R A F r O y s τ ν bd le) (h0 : CLr G O r y0 ν bd le) (f : yF O L c d y0 y) (hL : L.all (fun k => !(pCL.contains k)) = true) {b k : Nat} {v : Int64} (hb : yn y0 ≤ b) (hR : ¬ R = b) : LZ G T n N0 R A F r O (sJ y b k v) s τ ν bd le := by
  have hct : CT (sJ y b k v) R τ := by
    unfold CT
    rw [sJ_get, if_neg (by omega)]
    exact h.1.2.1
  refine ⟨⟨h.1.1, hct, h.1.2.2⟩, h.2.1, h.2.2.1, ?_, h.2.2.2.2⟩
  exact h0.fr (N' := vN ν) h.2.1 (f.sjN hb) hL (fun j j1 j2 => h.2.2.2.1.2.2.2.1 j j1 j2) rfl rfl
/-- the model writes what is not read yet -/
theorem LZ.ms (h : LZ G T n N0 R A F r O y s τ ν bd le) (g : fr K J s s1) (hK : K.all (fun k => !([2, 3, 4, 5, 6, 7, 8, 100].contains k)) = true) (hJ : J.contains 1 = false) (hm : ML s1 ν) : LZ G T n N0 R A F r O y s1 τ ν bd le := by
  obtain ⟨a, b, cc, dd, ⟨e1, e2, e3, e4⟩, ff, gg⟩ := h
  exact ⟨a, b, cc, dd, ⟨e1.fr g (off_all hK rfl) hJ, e2.fr g (off_all hK rfl) (off_all hK rfl) (off_all hK rfl) (off_all hK rfl) (off_all hK rfl), by rw [g.s 2 (off_all hK rfl)]; exact e3, by rw [g.s 3 (off_all hK rfl)]; exact e4⟩, hm, gg⟩
/-- reading changes nothing but the reader -/
theorem LZ.aft (hT : txO T n) (hG : okW G) (h : LZ G T n N0 R A F r O y s τ ν bd le) {a : Nat} {w : List Nat} (hS : wdG G a w) (hw : ltW w) {lo hi : Int} (h1 : -10000 ≤ lo ∧ lo ≤ 10000) (h2 : -10000 ≤ hi ∧ hi ≤ 10000) {v : Int32} (e : fy_Reader_after G y R a (iI lo) (iI hi) = some (.inr v, y1)) : rdY R y y1 := by
  have t0 := h.1.1.1.1
  have tb := h.1.2.2.1
  have hn := hT.1
  have ei := c_isW hT hG h.2.2.1 h.1.1 h.1.2.1 h.1.2.2 hS hw
  unfold fy_Reader_after at e
  by_cases z : isW τ w
  · rw [if_pos z] at ei
    have z1 := z.1
    obtain ⟨y2, k1, k2, k3⟩ := c_must1 (G := G) hT h.1.1 h.1.2.1 h.1.2.2 (by omega)
    obtain ⟨tk1, tp1⟩ := tk_ok (T := T) (n := n) (p := tE τ) (by omega) (by omega)
    have r2 := h.1.1.rd k2
    rw [ck_ok t0, obs, ei, obs, obs, k1, obs] at e
    simp only [Sum.elim_inr] at e
    rw [ck_ok r2.1.1, obs] at e
    obtain ⟨q1, q2⟩ := c_number (G := G) hT r2 k3 tk1 h1 h2
    by_cases nz : nmK (tk T n (tE τ)) lo hi = 0
    · obtain ⟨y3, q3, q4, q5⟩ := q1 nz
      rw [q3, obs] at e
      have e2 : (some ((Sum.inr (iI (tN (tk T n (tE τ)))) : Nat ⊕ Int32), y3)) = some (.inr v, y1) := e
      rw [Option.some.injEq, Prod.mk.injEq] at e2
      rw [← e2.2]
      exact k2.trans q4
    · rw [q2 nz, obs] at e
      cases e
  · rw [if_neg z] at ei
    rw [ck_ok t0, obs, ei, obs, obs, c_must0 h.1.1 h.1.2.1, obs] at e
    cases e
theorem ck2_bl {a : Nat} (h : yt y a = some (.inr 9) ∨ yt y a = some (.inr 10)) : ck2 9 10 y a = some () := by
  unfold ck2
  rcases h with h | h
  · rw [if_pos h]; exact ck_ok h
  · rw [if_neg (by rw [h]; intro z; cases z)]; exact ck_ok h
theorem gJ2_bl {a k : Nat} (h : yt y a = some (.inr 9) ∨ yt y a = some (.inr 10)) : gJ2 9 10 k y a = some (yj y a k) := by
  unfold gJ2
  rcases h with h | h
  · rw [if_pos h]; exact gJ_ok h
  · rw [if_neg (by rw [h]; intro z; cases z)]; exact gJ_ok h
theorem wJ2_bl {a k : Nat} {v : Int64} (h : yt y a = some (.inr 9) ∨ yt y a = some (.inr 10)) : wJ2 9 10 k y a v = some (sJ y a k v) := by
  unfold wJ2
  rcases h with h | h
  · rw [if_pos h]; exact wJ_ok h
  · rw [if_neg (by rw [h]; intro z; cases z)]; exact wJ_ok h
/-- the component looks whether a name is fresh -/
theorem c_fresh (hT : txO T n) (hG : okW G) (h : LZ G T n N0 R A F r O y s τ ν bd le) {l lab : Nat} {m : Int} {els : Nat → Nat} {W : Int → Int64} (hl : lsY G O y l lab m els) (hm : m ≤ 7) (h5 : Nat.beq lab 5 = false) (hE : ∀ i : Int, 0 ≤ i → i < m → els i.toNat < yn y ∧ (yt y (els i.toNat) = some (.inr 9) ∨ yt y (els i.toNat) = some (.inr 10)) ∧ yj y (els i.toNat) 0 = W i) :
    (¬ (tS τ = 1 ∧ ixW τ keptW 0 < 0) ∧ fy_Reader_fresh G y R l = some (.inl F, wrY y F (fkT τ) (tP τ))) ∨ ((tS τ = 1 ∧ ixW τ keptW 0 < 0) ∧ ∃ u, yF O [] 1 4 y u ∧ LZ G T n N0 R A F r O u s τ ν bd le ∧ (((∃ i : Int, 0 ≤ i ∧ i < m ∧ W i = tW τ) ∧ fy_Reader_fresh G y R l = some (.inl F, wrY u F 3 (tP τ))) ∨ ((∀ i : Int, 0 ≤ i → i < m → ¬ W i = tW τ) ∧ fy_Reader_fresh G y R l = ((fy_Reader_next G u R).bind fun p81 => some ((.inr (tW τ) : Nat ⊕ Int64), p81))))) := by
  have t0 := h.1.1.1.1
  have hRn := h.1.1.1.2
  have hct := h.1.2.1
  have sb := so_b h.1.2.2
  have ix := ixW_b τ keptW 0 (by omega)
  obtain ⟨q53, g53, r53⟩ := hG.2.2.2.1
  have ew := c_which hT hG h.2.2.1 h.1.1 h.1.2.1 h.1.2.2 r53 kept_lt (by decide)
  have kb := kdT_b (tS τ)
  have kl : (keptW.length : Int) = 19 := rfl
  have ek : yf y R 6 = 1 ↔ tS τ = 1 := by
    rw [hct.2.2.1, i1, iI_eq (by omega) (by omega) (by omega) (by omega)]
    exact kdT_1
  have ewr : ((fy_Reader_wrong G y R).bind fun p19 => (ck 3 p19.2 p19.1).bind fun _ => some ((.inl p19.1 : Nat ⊕ Int64), p19.2)) = some (.inl F, wrY y F (fkT τ) (tP τ)) := by
    rw [c_wrong h.1.1 h.1.2.1, obs, ck_wr h.1.1, obs]
  have hu : fy_Reader_fresh G y R l = if tS τ = 1 ∧ ixW τ keptW 0 < 0 then ((ck 16 y l).bind fun _ =>
      (fy_List_iterator G y l).bind fun p24 =>
      (lp (fy_Reader_fresh_b28 G R p24.1) p24.2).bind (Sum.elim (fun q28 =>
        (gJ 8 8 q28 R).bind fun x76 =>
        (ck 8 q28 R).bind fun _ =>
        (fy_Reader_next G q28 R).bind fun p81 =>
        some (.inr x76, p81)) (fun q28r => some q28r))) else some (.inl F, wrY y F (fkT τ) (tP τ)) := by
    unfold fy_Reader_fresh
    rw [gI_ok t0, obs]
    by_cases z : tS τ = 1
    · rw [if_pos (ek.mpr z), g53, obs, ck_ok t0, obs, ew, obs]
      by_cases z2 : ixW τ keptW 0 < 0
      · rw [if_pos (by rw [i0, iI_lt (by omega) (by omega) (by omega) (by omega)]; exact z2), if_pos ⟨z, z2⟩]
      · rw [if_neg (by rw [i0, iI_lt (by omega) (by omega) (by omega) (by omega)]; exact z2), if_neg (fun q => z2 q.2), obs, ewr]
    · rw [if_neg (fun q => z (ek.mp q)), if_neg (fun q => z q.1), ck_ok t0, obs, ewr]
  by_cases hN : tS τ = 1 ∧ ixW τ keptW 0 < 0
  · right
    refine ⟨hN, ?_⟩
    rw [if_pos hN] at hu
    obtain ⟨yi, e1, f1, it1⟩ := c_iter hl
    have hln := hl.1.2.2.1
    have hpl : ¬ yn y = l := by omega
    have hloop : ∃ z, lp (fy_Reader_fresh_b28 G R (yn y)) yi = some z ∧ ((∃ u, z = .inl u ∧ yF O [] 1 4 y u ∧ ∀ i : Int, 0 ≤ i → i < m → ¬ W i = tW τ) ∨ (∃ u, z = .inr (.inl F, wrY u F 3 (tP τ)) ∧ yF O [] 1 4 y u ∧ ∃ i : Int, 0 ≤ i ∧ i < m ∧ W i = tW τ)) := by
      refine lp_inv (fun i u => yF O [] 1 4 y u ∧ itY u (yn y) l i ∧ ∀ j : Int, 0 ≤ j → j < (i : Int) → ¬ W j = tW τ) m.toNat ?_ ?_ ⟨f1, it1, fun j j1 j2 => by omega⟩
      · rintro i u hi ⟨g1, g3, g4⟩
        have hlu := hl.fr g1 rfl rfl h5
        have hZ := h.fr0 g1
        have eh := c_hasNext hlu g3 (by omega) (by omega) (by omega)
        obtain ⟨en, it2⟩ := c_next hlu g3 hpl (by omega) (by omega) (by omega)
        obtain ⟨b1, b2, b3⟩ := hE i (by omega) (by omega)
        have f2 : yF O [] 1 4 y (sF (sF u (yn y) 0 (iI ((i : Int) + 1))) (yn y) 1 (iI i)) := (g1.sfN (Nat.le_refl _)).sfN (Nat.le_refl _)
        have b2' : yt (sF (sF u (yn y) 0 (iI ((i : Int) + 1))) (yn y) 1 (iI i)) (els (i : Int).toNat) = some (.inr 9) ∨ yt (sF (sF u (yn y) 0 (iI ((i : Int) + 1))) (yn y) 1 (iI i)) (els (i : Int).toNat) = some (.inr 10) := by rw [f2.tag b1]; exact b2
        have ej : yj (sF (sF u (yn y) 0 (iI ((i : Int) + 1))) (yn y) 1 (iI i)) (els (i : Int).toNat) 0 = W i := by rw [f2.lng b1 rfl]; exact b3
        have hZ2 := h.fr0 f2
        generalize hu2 : sF (sF u (yn y) 0 (iI ((i : Int) + 1))) (yn y) 1 (iI i) = u2 at *
        have t2 := hZ2.1.1.1.1
        have e8 : yj u2 R 8 = tW τ := hZ2.1.2.1.2.2.2.2 hN.1
        have ebody : fy_Reader_fresh_b28 G R (yn y) u = if W i = tW τ then some (.inr (.inr (.inl F, wrY u2 F 3 (tP τ)))) else some (.inl u2) := by
          unfold fy_Reader_fresh_b28
          rw [ck_ok g3.1, obs, eh, obs, if_neg (show ¬ iI (if (i : Int) = m then 0 else 1) = 0 by rw [if_neg (by omega)]; decide), obs, en, obs]
          simp only
          rw [ck2_bl b2', obs, gJ2_bl b2', obs, gJ_ok t2, obs, ej, e8]
          by_cases q : W i = tW τ
          · rw [if_pos (lg_eq.mpr q), if_pos q, gR_ok t2 hZ2.1.1.2.1.2.2.1, obs, gI_ok t2, obs, ck_ok hZ2.1.1.2.2.2, obs, hZ2.1.2.1.1, show (3 : Int32) = iI 3 from rfl, c_by hZ2.1.1, obs, ck_wr hZ2.1.1, obs]
          · rw [if_neg (fun z => q (lg_eq.mp z)), if_neg q]
        by_cases q : W i = tW τ
        · right
          exact ⟨_, by rw [ebody, if_pos q], Or.inr ⟨u2, rfl, f2, i, by omega, by omega, q⟩⟩
        · left
          refine ⟨u2, by rw [ebody, if_neg q], f2, it2, fun j j1 j2 => ?_⟩
          by_cases ji : j = i
          · rw [ji]; exact q
          · exact g4 j j1 (by omega)
      · rintro u ⟨g1, g3, g4⟩
        have m0 := hl.2.1
        have eh := c_hasNext (hl.fr g1 rfl rfl h5) g3 (by omega) (by omega) (by omega)
        refine ⟨.inl u, ?_, Or.inl ⟨u, rfl, g1, fun j j1 j2 => g4 j j1 (by omega)⟩⟩
        unfold fy_Reader_fresh_b28
        rw [ck_ok g3.1, obs, eh, obs, if_pos (show iI (if ((m.toNat : Nat) : Int) = m then 0 else 1) = 0 by rw [if_pos (by omega)]; rfl)]
    obtain ⟨z, ez, hz⟩ := hloop
    rw [ck_ok hl.1.1, obs, e1, obs] at hu
    simp only at hu
    rw [ez, obs] at hu
    rcases hz with ⟨u, rfl, g1, g3⟩ | ⟨u, rfl, g1, g3⟩
    · have hZ := h.fr0 g1
      refine ⟨u, g1, hZ, Or.inr ⟨g3, ?_⟩⟩
      rw [hu]
      simp only [Sum.elim_inl]
      rw [gJ_ok hZ.1.1.1.1, obs, ck_ok hZ.1.1.1.1, obs, hZ.1.2.1.2.2.2.2 hN.1]
    · exact ⟨u, g1, h.fr0 g1, Or.inl ⟨g3, by rw [hu]; rfl⟩⟩
  · left
    rw [if_neg hN] at hu
    exact ⟨hN, hu⟩
/-- the model looks whether a name is fresh -/
theorem m_newName (h : MT s τ) (ht : tkO T n τ) (h2 : s.1 2 = iI 0) (e0 : fm_token s0 = some s) {b m : Int} {W : Int → Int64} (hb : 0 ≤ b) (hm : 0 ≤ m) (hbm : b + m < 11) (hW : ∀ i : Int, 0 ≤ i → i < m → s.2.2.2 (b + i).toNat = W i) :
    (¬ (tS τ = 1 ∧ ixW τ keptW 0 < 0) → fm_newName s0 (iI b) (iI m) = some (wrM s (fkT τ) (tP τ))) ∧ ((tS τ = 1 ∧ ixW τ keptW 0 < 0) → ((∃ i : Int, 0 ≤ i ∧ i < m ∧ W i = tW τ) → fm_newName s0 (iI b) (iI m) = some (wrM s 3 (tP τ))) ∧ ((∀ i : Int, 0 ≤ i → i < m → ¬ W i = tW τ) → fm_newName s0 (iI b) (iI m) = fm_token (mSn s (vp_updL s.2.2.2 (b + m).toNat (tW τ))))) := by
  have fb := fkT_b τ
  have en := m_isName h ht
  -- a loop on a fault ends at once
  have lF : ∀ (i k p : Int), 0 ≤ i → i ≤ 20 → (1 ≤ k ∧ k ≤ 4) → fm_newName_b18 (iI b) (iI m) (iI i, wrM s k p) = some (.inr (wrM s k p)) := by
    intro i k p i1 i2 hk
    unfold fm_newName_b18
    simp (disch := omega) only [iI_le, iI_lt, iI_eq]
    by_cases z : m ≤ i
    · rw [if_pos z]
    · rw [if_neg z, if_neg]
      rw [show (wrM s k p).1 2 = iI k from rfl, i0, iI_eq (by omega) (by omega) (by omega) (by omega)]
      omega
  have jF : ∀ (k p : Int), (1 ≤ k ∧ k ≤ 4) → fm_newName_j57 (wrM s k p) (iI b) (iI m) = some (wrM s k p) := by
    intro k p hk
    unfold fm_newName_j57
    rw [if_neg]
    rw [show (wrM s k p).1 2 = iI k from rfl, i0, iI_le (by omega) (by omega) (by omega) (by omega)]
    omega
  refine ⟨fun hN => ?_, fun hN => ?_⟩
  · rw [if_neg hN] at en
    have kk := m_wrong (k := 2) h ht h2
    rw [show (if tS τ = 3 then (1 : Int) else 2) = fkT τ from rfl] at kk
    unfold fm_newName
    rw [e0, obs, en, obs, if_pos rfl, show (2 : Int32) = iI 2 from rfl, kk, obs, i0, lp_out (lF 0 _ _ (by omega) (by omega) (by omega)), obs, jF _ _ (by omega)]
  · rw [if_pos hN] at en
    have kk := m_wrong (k := 3) h ht h2
    rw [if_neg (by omega)] at kk
    have hw : s.2.1 = tW τ := h.2.2.2.2 hN.1
    have hloop : ∃ z, lp (fm_newName_b18 (iI b) (iI m)) (iI 0, s) = some z ∧ ((z = s ∧ ∀ i : Int, 0 ≤ i → i < m → ¬ W i = tW τ) ∨ (z = wrM s 3 (tP τ) ∧ ∃ i : Int, 0 ≤ i ∧ i < m ∧ W i = tW τ)) := by
      refine lp_inv (fun i q => q.1 = iI i ∧ ((q.2 = s ∧ ∀ j : Int, 0 ≤ j → j < (i : Int) → ¬ W j = tW τ) ∨ (q.2 = wrM s 3 (tP τ) ∧ ∃ j : Int, 0 ≤ j ∧ j < m ∧ W j = tW τ))) m.toNat ?_ ?_ ⟨rfl, Or.inl ⟨rfl, fun j j1 j2 => by omega⟩⟩
      · rintro i ⟨k, u⟩ hi ⟨g1, g2⟩
        simp only at g1 g2
        subst g1
        rcases g2 with ⟨rfl, g2⟩ | ⟨rfl, g2⟩
        · left
          have el : ldJ u (iI b + iI i) = some (W i) := by
            rw [iI_add]
            unfold ldJ
            rw [if_pos (inb_i (by omega) (by omega) (by omega)), iI_clamp (by omega) (by omega), hW i (by omega) (by omega)]
          have eb : fm_newName_b18 (iI b) (iI m) (iI i, u) = if W i = tW τ then some (.inl (iI ((i : Int) + 1), wrM u 3 (tP τ))) else some (.inl (iI ((i : Int) + 1), u)) := by
            unfold fm_newName_b18
            simp (disch := omega) only [iI_le, iI_lt, iI_eq]
            rw [if_neg (by omega), h2, if_pos (show iI 0 = 0 from rfl), el, obs, hw, i1, iI_add]
            by_cases q : W i = tW τ
            · rw [if_pos (lg_eq.mpr q), if_pos q, show (3 : Int32) = iI 3 from rfl, kk, obs]
            · rw [if_neg (fun z => q (lg_eq.mp z)), if_neg q]
          by_cases q : W i = tW τ
          · exact ⟨_, by rw [eb, if_pos q], rfl, Or.inr ⟨rfl, i, by omega, by omega, q⟩⟩
          · refine ⟨_, by rw [eb, if_neg q], rfl, Or.inl ⟨rfl, fun j j1 j2 => ?_⟩⟩
            by_cases ji : j = i
            · rw [ji]; exact q
            · exact g2 j j1 (by omega)
        · right
          exact ⟨_, lF i 3 _ (by omega) (by omega) (by omega), Or.inr ⟨rfl, g2⟩⟩
      · rintro ⟨k, u⟩ ⟨g1, g2⟩
        simp only at g1 g2
        subst g1
        refine ⟨u, ?_, ?_⟩
        · unfold fm_newName_b18
          simp (disch := omega) only [iI_le, iI_lt, iI_eq]
          rw [if_pos (by omega)]
        · rcases g2 with ⟨g, g2⟩ | g2
          · exact Or.inl ⟨g, fun j j1 j2 => g2 j j1 (by omega)⟩
          · exact Or.inr g2
    obtain ⟨z, ez, hz⟩ := hloop
    have eN : fm_newName s0 (iI b) (iI m) = fm_newName_j57 z (iI b) (iI m) := by
      unfold fm_newName
      rw [e0, obs, en, obs, if_neg (by decide), i0, ez, obs]
    refine ⟨fun hc => ?_, fun hc => ?_⟩
    · rcases hz with ⟨-, g⟩ | ⟨rfl, -⟩
      · obtain ⟨i, i1, i2, i3⟩ := hc
        exact absurd i3 (g i i1 i2)
      · rw [eN, jF 3 _ (by omega)]
    · rcases hz with ⟨rfl, -⟩ | ⟨-, i, i1, i2, i3⟩
      · rw [eN]
        unfold fm_newName_j57
        rw [h2, if_pos (by decide), iI_add]
        unfold stJ
        rw [if_pos (inb_i (by omega) (by omega) (by omega)), iI_clamp (by omega) (by omega), obs, hw]
        cases fm_token (mSn z (vp_updL z.2.2.2 (b + m).toNat (tW τ))) with
        | none => rfl
        | some p => rfl
      · exact absurd i3 (hc i i1 i2)
end N7

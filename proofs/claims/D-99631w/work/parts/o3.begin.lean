/-! LAYER 3, the river: the reading begins -/
set_option maxRecDepth 100000
def nu0 : Lv := (fun k => if k = 8 then 8 else if k = 9 then 6 else 0, fun _ _ => 0, fun _ _ => 0, [])
def RK : List Nat := [1, 5, 2, 3, 4, 6, 7, 8, 100, 17, 19, 20, 22, 23, 24, 38, 39, 40, 41, 42, 43, 44, 45, 51, 52, 53]
/-- labels at the beginning -/
def lab0 (X F : Nat) : Nat → Nat := fun a => if a < X then (if a = F then 57 else 50) else [30, 5, 34, 35, 38, 38, 38, 39].getD (a - X) 0
section O3
variable {G : ai_G} {T : Int → Int} {n : Int} {X Q A F : Nat} {y : yS} {s : mS}
theorem lab0_at (k : Nat) : lab0 X F (X + k) = [30, 5, 34, 35, 38, 38, 38, 39].getD k 0 := by
  unfold lab0
  rw [if_neg (by omega), show X + k - X = k by omega]
theorem nu0_wf : wfL nu0 := by
  refine ⟨⟨⟨by decide, by decide⟩, ⟨by decide, by decide⟩, ⟨by decide, by decide⟩, ⟨by decide, by decide⟩, ⟨by decide, by decide⟩, ⟨by decide, by decide⟩, Or.inl rfl, Or.inl rfl, ⟨by decide, by decide⟩, ⟨by decide, by decide⟩, ⟨by decide, by decide⟩, ⟨by decide, by decide⟩⟩, fun z _ _ => ⟨⟨(by decide : (0 : Int) ≤ 0), (by decide : (0 : Int) ≤ 7)⟩, Or.inl rfl, Or.inl rfl, fun _ => rfl, fun _ => rfl⟩, fun b b1 b2 => ?_, fun b b1 b2 => ?_, Or.inl rfl, Or.inl rfl, fun _ => ⟨rfl, fun _ _ _ => rfl⟩⟩
  · have : b < 0 := b2
    omega
  · have : b < 0 := b2
    omega
/-- the reader is made -/
theorem c_rinit (hg : okG G) (ho : oldY G y) (hA : A < yn y) (hF : F < yn y) (tA : yt y A = some (.inl (2, 1600))) (bA : ∀ z, 0 ≤ z → z < 1600 → ya y A z.toNat &&& iI 255 = iI (T z)) (tF : yt y F = some (.inr 3)) (bd le : Nat → Nat) : ∃ y', fy_Reader_init G (nO y 8) (yn y) A (iI n) F = some y' ∧ labO (lab0 (yn y) F) (yn y) (yn y) A F (yn y + 1) ∧ RB T n (yn y) A F (yn y + 1) y' ∧ oldY G y' ∧ CLr G (lab0 (yn y) F) (yn y + 1) y' nu0 bd le ∧ yf y' (yn y) 5 = iI 0 ∧ kpY (yn y) F 8 208 y y' := by
  obtain ⟨⟨Q, fQ, hQ, gQ⟩, -⟩ := hg
  obtain ⟨tQ, lQ⟩ := ho Q _ gQ
  have hL : labO (lab0 (yn y) F) (yn y) (yn y) A F (yn y + 1) := ⟨lab0_at 0, lab0_at 1, lab0_at 2, lab0_at 3, ⟨lab0_at 4, lab0_at 5, lab0_at 6⟩, lab0_at 7, fun a ha => if_pos ha, hF, hA, Nat.le_refl _, by omega, by omega⟩
  have rZ : rlY (yn y) Q (yu y) yZ y := ⟨rfl, ⟨rfl, lQ, tQ⟩, fun k hk => absurd hk (Nat.not_lt_zero k)⟩
  obtain ⟨c, u, hr, hc, fu, ee⟩ := c_rinit0 (O := lab0 (yn y) F) hQ rfl (rZ.nO 8) (yF.refl.no (k := 8)) A F (iI n)
  obtain ⟨⟨c1, c2⟩, ⟨c3, c4⟩, ⟨c5, c6, c7, c8, c9, c10, c11⟩, c12, c13, c14, c15⟩ := hc
  have nu : yn u = yn y + 8 := by rw [hr.1, c1]
  have t0 : yt u (yn y + 0) = some (.inr 8) := hr.t c3 (by omega)
  have f2 : yF (lab0 (yn y) F) [] 8 208 y (sR (sF (sR u (yn y) 0 (some A)) (yn y) 1 (iI n)) (yn y) 2 (some F)) := ((fu.srN (Nat.le_refl _)).sfN (Nat.le_refl _)).srN (Nat.le_refl _)
  have hfe : ∀ a k, ¬ a = yn y → yf (sR (sF (sR u (yn y) 0 (some A)) (yn y) 1 (iI n)) (yn y) 2 (some F)) a k = yf u a k := by
    intro a k ha
    show yf (sF (sR u (yn y) 0 (some A)) (yn y) 1 (iI n)) a k = _
    rw [sF_get, if_neg (fun z => ha z.1)]
    rfl
  have hre : ∀ a k, ¬ a = yn y → yr (sR (sF (sR u (yn y) 0 (some A)) (yn y) 1 (iI n)) (yn y) 2 (some F)) a k = yr u a k := by
    intro a k ha
    rw [sR_get, if_neg (fun z => ha z.1)]
    show yr (sR u (yn y) 0 (some A)) a k = _
    rw [sR_get, if_neg (fun z => ha z.1)]
  have hR3 : yr u (yn y + 0) 3 = some (yn y + 1) := hr.r c3 (by omega) c4 (by decide)
  have r1 : ∀ p ∈ [(0, 2), (1, 3), (2, 4), (3, 5), (4, 6), (16, 7)], yr u (yn y + 1) p.1 = some (yn y + p.2) := fun p hp => hr.r c5 (by omega) (c6 p hp) (by
    simp only [List.mem_cons, List.not_mem_nil, or_false] at hp
    rcases hp with rfl | rfl | rfl | rfl | rfl | rfl <;> decide)
  have hls : ∀ (l lab : Nat), l ∈ [2, 3] → lab0 (yn y) F (yn y + l) = lab → ∀ e : Nat → Nat, lsY G (lab0 (yn y) F) (sR (sF (sR u (yn y) 0 (some A)) (yn y) 1 (iI n)) (yn y) 2 (some F)) (yn y + l) lab 0 e := by
    intro l lab hl hlab e
    obtain ⟨d1, d2, d3⟩ := c13 l hl
    have hl8 : l < 8 ∧ ¬ l = 0 := by
      simp only [List.mem_cons, List.not_mem_nil, or_false] at hl
      omega
    obtain ⟨q1, q2, -⟩ := hr.2.2 l (by omega)
    obtain ⟨q3, q4⟩ := q2 16 d1
    refine ⟨⟨q1.trans d1, hlab, ?_, ?_⟩, Int.le_refl _, Q, ?_, ?_, fun i hi => by omega, Or.inl ⟨rfl, hQ, ?_⟩⟩
    · show yn y + l < yn u
      omega
    · rw [hfe _ _ (by omega), q3, d2]; rfl
    · rw [hre _ _ (by omega), q4, d3]
      show some (shA (yn y) Q 1000000) = some Q
      unfold shA
      rw [if_pos rfl]
    · show Q < yn u
      omega
    · show yt u Q = none
      exact hr.2.1.2.2
  refine ⟨sR (sF (sR u (yn y) 0 (some A)) (yn y) 1 (iI n)) (yn y) 2 (some F), ?_, hL, ⟨⟨t0, by show yn y < yn u; omega⟩, ⟨?_, ?_, ?_, ?_⟩, ⟨?_, fun z z1 z2 => ?_⟩, ?_⟩, ho.fr f2, ⟨⟨hr.t c5 (by omega), by show yn y + 1 + 6 < yn u; omega⟩, ⟨?_, ?_, ?_, ?_, ?_, ?_⟩, ⟨hr.t c7 (by omega), hr.t c8 (by omega), hr.t c9 (by omega), hr.t c10 (by omega)⟩, fun k k1 k2 => ?_, fun z z1 z2 => ?_, hls 2 34 (by decide) (lab0_at 2) bd, hls 3 35 (by decide) (lab0_at 3) le, fun b b1 b2 => ?_, fun l l1 l2 => ?_, Or.inl ⟨rfl, ?_⟩⟩, ?_, f2.kp hL (Nat.le_refl _) rfl⟩
  · rw [show fy_Reader_init G (nO y 8) (yn y) A (iI n) F = fy_Reader_init G (nO y 8) (yn y + 0) A (iI n) F from rfl, ee]
    rw [wR_ok t0, obs, wI_ok (show yt (sR u (yn y + 0) 0 (some A)) (yn y + 0) = some (.inr 8) from t0), obs, wR_ok (show yt (sF (sR u (yn y + 0) 0 (some A)) (yn y + 0) 1 (iI n)) (yn y + 0) = some (.inr 8) from t0), obs]
    rfl
  · rw [sR_get, if_neg (by omega)]
    show yr (sR u (yn y) 0 (some A)) (yn y) 0 = _
    rw [sR_get, if_pos ⟨rfl, rfl⟩]
  · show yf (sF (sR u (yn y) 0 (some A)) (yn y) 1 (iI n)) (yn y) 1 = _
    rw [sF_get, if_pos ⟨rfl, rfl⟩]
  · rw [sR_get, if_pos ⟨rfl, rfl⟩]
  · rw [sR_get, if_neg (by omega)]
    show yr (sR u (yn y) 0 (some A)) (yn y) 3 = _
    rw [sR_get, if_neg (by omega)]
    exact hR3
  · rw [f2.tag hA]; exact tA
  · rw [f2.arr hA rfl]; exact bA z z1 z2
  · rw [f2.tag hF]; exact tF
  · rw [hre _ _ (by omega)]; exact r1 (0, 2) (by decide)
  · rw [hre _ _ (by omega)]; exact r1 (1, 3) (by decide)
  · rw [hre _ _ (by omega)]; exact r1 (2, 4) (by decide)
  · rw [hre _ _ (by omega)]; exact r1 (3, 5) (by decide)
  · rw [hre _ _ (by omega)]; exact r1 (4, 6) (by decide)
  · rw [hre _ _ (by omega)]; exact r1 (16, 7) (by decide)
  · rw [hfe _ _ (by omega)]
    obtain ⟨-, q2, -⟩ := hr.2.2 1 (by omega)
    rw [(q2 1 c5).1]
    have : k = 6 ∨ k = 7 ∨ k = 8 ∨ k = 9 ∨ k = 10 ∨ k = 11 ∨ k = 12 ∨ k = 13 ∨ k = 14 ∨ k = 15 := by omega
    rw [c12 k (by rcases this with z | z | z | z | z | z | z | z | z | z <;> subst z <;> decide)]
    rcases this with z | z | z | z | z | z | z | z | z | z <;> subst z <;> rfl
  · have q : ∀ a ∈ [4, 5, 6], ya u (yn y + a) = fun _ => 0 := by
      intro a ha
      have hk : a < yn c := by
        simp only [List.mem_cons, List.not_mem_nil, or_false] at ha
        omega
      obtain ⟨-, -, q3⟩ := hr.2.2 a hk
      have hc : ∃ p, yt c a = some (.inl p) := by
        simp only [List.mem_cons, List.not_mem_nil, or_false] at ha
        rcases ha with rfl | rfl | rfl
        · exact ⟨_, c7⟩
        · exact ⟨_, c8⟩
        · exact ⟨_, c9⟩
      obtain ⟨p, hp⟩ := hc
      rw [(q3 p hp).1]
      exact c15 a (by
        simp only [List.mem_cons, List.not_mem_nil, or_false] at ha ⊢
        omega)
    refine ⟨?_, ?_, ?_⟩
    · show ya u (yn y + 4) z.toNat = _
      rw [q 4 (by decide)]; rfl
    · show ya u (yn y + 5) z.toNat = _
      rw [q 5 (by decide)]; rfl
    · show ya u (yn y + 6) z.toNat = _
      rw [q 6 (by decide)]; rfl
  · have : b < 0 := b2
    omega
  · have : l < 0 := l2
    omega
  · rw [hre _ _ (by omega)]
    obtain ⟨-, q2, -⟩ := hr.2.2 1 (by omega)
    rw [(q2 1 c5).2, c11]
    rfl
  · show yf (sF (sR u (yn y) 0 (some A)) (yn y) 1 (iI n)) (yn y) 5 = _
    rw [sF_get, if_neg (by omega)]
    show yf u (yn y) 5 = _
    obtain ⟨-, q2, -⟩ := hr.2.2 0 (by omega)
    rw [show yf u (yn y) 5 = yf u (yn y + 0) 5 from rfl, (q2 8 c3).1, c14]
    rfl
/-- the model begins -/
theorem m_rinit (h1 : s.1 1 = iI n) (ht : ar s 1 1600 T) : ∃ s0, fm_readAll s = ((fm_token s0).bind fun p124 => (lp fm_readAll_b127 p124).bind fun q127 => some q127) ∧ MX T n s0 ∧ s0.1 4 = iI 0 ∧ ML s0 nu0 ∧ (s0.1 1 = iI 0 ∧ s0.1 2 = iI 0 ∧ s0.1 3 = iI (-1)) ∧ fr RK LJ s s0 := by
  have key : ∀ u : mS, ∃ q, lp fm_readAll_b97 (iI 0, u) = some q ∧ (fr [] [10, 11] u q ∧ ∀ z : Int, 0 ≤ z → z < 56 → q.2.2.1 10 z.toNat = iI (-1) ∧ q.2.2.1 11 z.toNat = iI (-1)) := by
    intro u
    refine lp_inv (fun i q => q.1 = iI i ∧ fr [] [10, 11] u q.2 ∧ ∀ z : Int, 0 ≤ z → z < (i : Int) → q.2.2.2.1 10 z.toNat = iI (-1) ∧ q.2.2.2.1 11 z.toNat = iI (-1)) 56 ?_ ?_ ⟨rfl, fr.refl, fun z z1 z2 => by omega⟩
    · rintro i ⟨k, v⟩ hi ⟨g1, g2, g3⟩
      simp only at g1 g2 g3
      subst g1
      left
      refine ⟨(iI ((i : Int) + 1), aw (aw v 10 (i : Int).toNat (iI (-1))) 11 (i : Int).toNat (iI (-1))), ?_, rfl, (g2.aw rfl).aw rfl, fun z z1 z2 => ?_⟩
      · unfold fm_readAll_b97
        rw [if_neg (show ¬ (56 : Int32) ≤ iI (i : Int) by rw [show (56 : Int32) = iI 56 from rfl, iI_le (by omega) (by omega) (by omega) (by omega)]; omega), sto_aw (by omega) (by omega) (by omega), obs, sto_aw (by omega) (by omega) (by omega), obs, i1, iI_add]
        rfl
      · simp only [aw_get]
        by_cases q : z = i
        · subst q
          refine ⟨?_, ?_⟩
          · rw [if_neg (by omega), if_pos ⟨trivial, rfl⟩]
          · rw [if_pos ⟨trivial, rfl⟩]
        · rw [if_neg (by omega), if_neg (by omega), if_neg (by omega), if_neg (by omega)]
          exact g3 z z1 (by omega)
    · rintro ⟨k, v⟩ ⟨g1, g2, g3⟩
      simp only at g1 g2 g3
      subst g1
      refine ⟨v, ?_, g2, fun z z1 z2 => g3 z z1 (by omega)⟩
      unfold fm_readAll_b97
      rw [if_pos (show (56 : Int32) ≤ iI ((56 : Nat) : Int) by decide)]
  have hall : ∃ u, (fm_readAll s = (lp fm_readAll_b97 (iI 0, u)).bind fun q97 => (fm_token q97).bind fun p124 => (lp fm_readAll_b127 p124).bind fun q127 => some q127) ∧ fr RK LJ s u ∧ u.1 5 = iI n ∧ u.1 4 = iI 0 ∧ (u.1 1 = iI 0 ∧ u.1 2 = iI 0 ∧ u.1 3 = iI (-1)) ∧ (u.1 38 = iI 8 ∧ u.1 39 = iI 6 ∧ u.1 40 = iI 0 ∧ u.1 41 = iI 0 ∧ u.1 42 = iI 0 ∧ u.1 43 = iI 0 ∧ u.1 44 = iI 0 ∧ u.1 45 = iI 0 ∧ u.1 51 = iI 0 ∧ u.1 52 = iI 0 ∧ u.1 53 = iI 0 ∧ u.1 24 = iI 0 ∧ u.1 20 = iI 0) := by
    refine ⟨mSi (mSi (mSi (mSi (mSi (mSi (mSi (mSi (mSi (mSi (mSi (mSi (mSi (mSi (mSi (mSi (mSi (mSi s 5 (s.1 1)) 1 0) 4 0) 2 0) 3 (-1)) 38 8) 39 6) 40 0) 41 0) 42 0) 43 0) 44 0) 45 0) 51 0) 52 0) 53 0) 24 0) 20 0, rfl, ?_, ?_, rfl, ⟨rfl, rfl, rfl⟩, ⟨rfl, rfl, rfl, rfl, rfl, rfl, rfl, rfl, rfl, rfl, rfl, rfl, rfl⟩⟩
    · exact (((((((((((((((((fr.refl.si rfl).si rfl).si rfl).si rfl).si rfl).si rfl).si rfl).si rfl).si rfl).si rfl).si rfl).si rfl).si rfl).si rfl).si rfl).si rfl).si rfl).si rfl
    · show s.1 1 = iI n
      exact h1
  obtain ⟨u, e1, f1, a5, a4, ⟨b1, b2, b3⟩, c38, c39, c40, c41, c42, c43, c44, c45, c51, c52, c53, c24, c20⟩ := hall
  obtain ⟨q, e2, f2, hz⟩ := key u
  refine ⟨q, ?_, ⟨?_, ?_⟩, ?_, ⟨⟨?_, ?_, ?_, ?_, ?_, ?_, ?_, ?_, ?_, ?_, ?_, ?_, ?_⟩, fun z z1 z2 => hz z z1 z2, ⟨fun z z1 z2 => ?_, fun z z1 z2 => ?_, fun z z1 z2 => ?_, fun z z1 z2 => ?_⟩, ⟨fun k hk => ?_, fun k hk => ?_⟩, fun hh => absurd rfl hh⟩, ⟨?_, ?_, ?_⟩, f1.trans (f2.mono rfl rfl)⟩
  · rw [e1, e2, obs]
  · rw [f2.s 5 rfl]; exact a5
  · exact f2.ar (f1.ar ht rfl) rfl
  · rw [f2.s 4 rfl]; exact a4
  · rw [f2.s 38 rfl]; exact c38
  · rw [f2.s 39 rfl]; exact c39
  · rw [f2.s 40 rfl]; exact c40
  · rw [f2.s 41 rfl]; exact c41
  · rw [f2.s 42 rfl]; exact c42
  · rw [f2.s 43 rfl]; exact c43
  · rw [f2.s 44 rfl]; exact c44
  · rw [f2.s 45 rfl]; exact c45
  · rw [f2.s 51 rfl]; exact c51
  · rw [f2.s 52 rfl]; exact c52
  · rw [f2.s 53 rfl]; exact c53
  · rw [f2.s 24 rfl]; exact c24
  · rw [f2.s 20 rfl]; exact c20
  · have : z < 0 := z2
    omega
  · have : z < 0 := z2
    omega
  · have : z < 0 := z2
    omega
  · have : z < 0 := z2
    omega
  · have : (k : Int) < 0 := hk
    omega
  · have : (k : Int) < 0 := hk
    omega
  · rw [f2.s 1 rfl]; exact b1
  · rw [f2.s 2 rfl]; exact b2
  · rw [f2.s 3 rfl]; exact b3
/-- all is read, both sides -/
theorem R_all (hT : txO T n) (hG : okW G) (hg : okG G) (ho : oldY G y) (hA : A < yn y) (hF : F < yn y) (tA : yt y A = some (.inl (2, 1600))) (bA : ∀ z, 0 ≤ z → z < 1600 → ya y A z.toNat &&& iI 255 = iI (T z)) (tF : yt y F = some (.inr 3)) (h1 : s.1 1 = iI n) (ht : ar s 1 1600 T) : ∃ y1, fy_Reader_init G (nO y 8) (yn y) A (iI n) F = some y1 ∧ ck 8 y1 (yn y) = some () ∧ ((∃ y' s' k p, fy_Reader_read G y1 (yn y) = some (.inl F, y') ∧ fm_readAll s = some s' ∧ (1 ≤ k ∧ k ≤ 4 ∧ 0 ≤ p ∧ p ≤ 1600) ∧ (yf y' F 0 = iI k ∧ yf y' F 1 = iI p) ∧ (s'.1 2 = iI k ∧ s'.1 3 = iI p ∧ s'.1 1 = iI 0) ∧ kpY (yn y) F 1608 32208 y y' ∧ fr RK LJ s s') ∨ (∃ O y' s' τ ν bd le, fy_Reader_read G y1 (yn y) = some (.inr (yn y + 1), y') ∧ fm_readAll s = some s' ∧ LZ G T n (yn y) (yn y) A F (yn y + 1) O y' s' τ ν bd le ∧ s'.1 1 = iI 0 ∧ kpY (yn y) F 1608 32208 y y' ∧ fr RK LJ s s')) := by
  obtain ⟨y1, e1, hL, hR, ho1, hC, h5, kp⟩ := c_rinit (T := T) (n := n) hg ho hA hF tA bA tF (fun _ => 0) (fun _ => 0)
  obtain ⟨s0, m1, mX, m4, mM, ⟨n1, n2, n3⟩, f0⟩ := m_rinit (T := T) (n := n) h1 ht
  have hn := hT.1
  obtain ⟨y2, c1, c2, c3⟩ := c_nextT (G := G) hT hR h5 (Int.le_refl 0) hn.1
  obtain ⟨s2, t1, t2, t3⟩ := m_token hT mX m4 (Int.le_refl 0) hn.1
  obtain ⟨tk0, tp0⟩ := tk_ok (T := T) (n := n) (p := 0) (Int.le_refl 0) hn.1
  have hZ : LZ G T n (yn y) (yn y) A F (yn y + 1) (lab0 (yn y) F) y2 s2 (tk T n 0) nu0 (fun _ => 0) (fun _ => 0) := ⟨⟨hR.rd c2, c3, tk0⟩, hL, ho1.rd c2, hC.rd hL c2, ⟨MX.fr (K := [4, 6, 7, 8, 100]) (J := []) mX t3 rfl rfl, t2, by rw [t3.s 2 rfl]; exact n2, by rw [t3.s 3 rfl]; exact n3⟩, mM.fr t3 rfl rfl, nu0_wf⟩
  have kp2 : kpY (yn y) F 8 208 y y2 := kp.trans (c2.kp (Nat.le_refl _))
  have fs2 : fr RK LJ s s2 := f0.trans (t3.mono rfl rfl)
  have s21 : s2.1 1 = iI 0 := by rw [t3.s 1 rfl]; exact n1
  have eR : fy_Reader_read G y1 (yn y) = (lp (fy_Reader_read_b4 G (yn y)) y2).bind (Sum.elim (fun q4 => (gR 8 3 q4 (yn y)).bind fun x29 => some ((.inr x29 : Nat ⊕ Nat), q4)) (fun q4r => some q4r)) := by
    unfold fy_Reader_read
    rw [ck_ok hR.1.1, obs, c1, obs]
  have eM : fm_readAll s = (lp fm_readAll_b127 s2).bind fun q127 => some q127 := by rw [m1, t1, obs]
  have hb : bdy nu0 (tk T n 0) := ⟨rfl, fun _ => rfl, tp0⟩
  refine ⟨y1, e1, ck_ok hR.1.1, ?_⟩
  rcases L_all hT hG hg 1601 _ _ _ _ _ _ _ (by omega) hZ hb with ⟨y3, s3, k, p, q1, q2, q3, q4, q5, q6, q7⟩ | ⟨O3, y3, s3, τ3, ν3, bd3, le3, q1, q2, q3, q4, q5⟩
  · left
    refine ⟨y3, s3, k, p, by rw [eR, q1]; rfl, by rw [eM, q2]; rfl, q3, q4, ⟨q5.1, q5.2, by rw [q7.s 1 rfl]; exact s21⟩, (kp2.trans q6).mono (by omega) (by omega), fs2.trans (q7.mono rfl rfl)⟩
  · right
    refine ⟨O3, y3, s3, τ3, ν3, bd3, le3, ?_, by rw [eM, q2]; rfl, q3, by rw [q5.s 1 rfl]; exact s21, (kp2.trans q4).mono (by omega) (by omega), fs2.trans (q5.mono rfl rfl)⟩
    rw [eR, q1, obs]
    simp only [Sum.elim_inl]
    rw [gR_ok q3.1.1.1.1 q3.1.1.2.1.2.2.2, obs]
end O3

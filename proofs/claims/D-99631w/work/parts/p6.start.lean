/-! THE LAW: its start -/
set_option maxRecDepth 100000
section P6
variable {G : ai_G} {O O' : Nat → Nat} {Q X : Nat} {y : yS} {h0 : ai_H} {c d : Nat}
theorem yF.any {y1 : yS} (f : yF O [] c d y y1) : yF O' [] c d y y1 := ⟨f.1, f.2.1, fun a ha _ => f.2.2.1 a ha rfl, fun a k ha _ => f.2.2.2 a k ha rfl⟩
theorem mu0_wf : wfM mu0 := by
  refine ⟨rv0_wf, ⟨fun b b1 b2 => ?_, fun l l1 l2 => ?_, (by decide : (0 : Int) ≤ 0), (by decide : (0 : Int) < 1000)⟩, ⟨(by decide : (0 : Int) ≤ 0), (by decide : (0 : Int) ≤ 1600)⟩, fun z => ⟨(by decide : (0 : Int) ≤ 0), (by decide : (0 : Int) ≤ 255)⟩, ⟨(by decide : (0 : Int) ≤ 0), (by decide : (0 : Int) ≤ 0), (by decide : (0 : Int) + 0 ≤ 40)⟩, fun k k1 k2 => ?_, ⟨(by decide : (0 : Int) ≤ 0), (by decide : (0 : Int) ≤ 7)⟩, ⟨(by decide : (0 : Int) ≤ 0), (by decide : (0 : Int) ≤ 30)⟩, ⟨(by decide : (0 : Int) ≤ 0), (by decide : (0 : Int) ≤ 100000)⟩, fun i i1 i2 => ?_, fun k => Or.inl rfl, fun k k1 k2 k3 => ?_⟩
  · have : b < 0 := b2
    omega
  · have : l < 0 := l2
    omega
  · have : k < 0 + 0 := k2
    omega
  · have : i < 0 := i2
    omega
  · have : (0 : Int) = 1 := k3
    omega
theorem s00_MR : MR (uBeg mu0 0) s00 := by
  refine MR.beg ⟨rfl, rfl, rfl, rfl, rfl, rfl, fun z _ _ => rfl, fun z _ _ => rfl, fun z _ _ => rfl, fun z _ _ => rfl, fun z _ _ => rfl, fun z _ _ => rfl, rfl, fun k p hk => (by cases hk)⟩ (fun z z1 z2 => ?_) ⟨rfl, rfl, rfl, rfl⟩ (fun z _ _ => rfl) rfl rfl rfl rfl (fun z _ _ => rfl)
  have e : begM (uR mu0) 0 z = 0 := by
    show (if z < 4 then (if z < 0 then (0 : Int) else 0) else if z < 20 then 0 else if z < 20 + 0 then -1 else if z = 27 then 0 else 0) = 0
    repeat' split
    all_goals first | rfl | omega
  show (0 : Int32) = iI (begM (uR mu0) 0 z)
  rw [e]
  rfl
theorem s00_wf : wfM (uBeg mu0 0) := wfM.beg mu0_wf rv0_wf (dz := 0) ⟨by decide, by decide⟩ (N := uS mu0) ⟨(by decide : (0 : Int) ≤ 0), (by decide : (0 : Int) ≤ 1600)⟩ ⟨(by decide : (0 : Int) ≤ 0), (by decide : (0 : Int) ≤ 100000)⟩
theorem mF_tab : ∀ k, k < 82 → (if m_off k = 0 then (if k = 9 then ai_ty 7 k = .long else isIt (ai_ty 7 k) = true) else isRt (ai_ty 7 k) = true) := by decide +kernel
theorem m_off_lt : ∀ k, k < 82 → ¬ m_off k = 1000000 := by decide +kernel
theorem fv_dft (ty : FieldType) : fv ty 0 none 0 = defaultValue ty := by cases ty <;> rfl
/-- the model is made -/
theorem c_minit (h1 : Q < yn y) (h2 : yt y Q = none) : ∃ u y3, fy_m_init G (nO y 7) (yn y) = some u ∧ (∀ h0, yH u (hL h0 (yn y + 2)) = mH (yn y) s00 (yH y3 h0)) ∧ (∀ O, yF O [] 45 20000 y y3) ∧ (∀ a, yn y ≤ a → a < yn y + 45 → yt y3 a = none) ∧ yn y3 = yn y + 45 := by
  have r : rlY (yn y) Q (yu y) yZ y := ⟨rfl, ⟨rfl, h1, h2⟩, fun k hk => absurd hk (Nat.not_lt_zero k)⟩
  obtain ⟨c, u, hr, hc, f, hj, e⟩ := c_minit0 (G := G) (O := fun _ => 0) (y := y) rfl (r.nO 7) (yF.refl.no (k := 7)) rfl
  obtain ⟨⟨c1, c2⟩, c3, c4, c5, c6, c7, c8, c9⟩ := hc
  have hn : yn u = yn y + 45 := by rw [hr.1, c1]
  refine ⟨u, ((fun a => if yn y ≤ a ∧ a < yn y + 45 then none else yt u a), u.2), e, fun h0 => ?_, fun O => ⟨⟨by show yn y ≤ yn u; omega, by show yn u ≤ _; omega, by have := f.1.2.2; show yu u ≤ _; omega⟩, fun a ha => ?_, fun a ha _ => f.2.2.1 a ha rfl, fun a k ha _ => f.2.2.2 a k ha rfl⟩, fun a a1 a2 => if_pos ⟨a1, a2⟩, hn⟩
  · have e1 : (yH u (hL h0 (yn y + 2))).1 = (mH (yn y) s00 (yH ((fun a => if yn y ≤ a ∧ a < yn y + 45 then none else yt u a), u.2) h0)).1 := by
      funext a
      show yC u a (if a = yn y + 2 then some (.inl (3, 11, .inr (.inl (fun _ => 0)))) else h0.1 a) = (if a = yn y then some (.inr (7, mF (yn y) s00)) else if yn y < a ∧ a < yn y + 45 then some (mA s00 (a - yn y)) else yC ((fun a => if yn y ≤ a ∧ a < yn y + 45 then none else yt u a), u.2) a (h0.1 a))
      by_cases q0 : a = yn y
      · rw [if_pos q0]
        subst q0
        obtain ⟨t1, t2, -⟩ := hr.2.2 0 (by omega)
        obtain ⟨t3, t4⟩ := t2 7 c3
        have t1' : yt u (yn y) = some (.inr 7) := t1.trans c3
        unfold yC
        rw [t1']
        show some (Sum.inr (7, yO u (yn y) 7)) = _
        refine congrArg (fun g => some (Sum.inr (7, g))) ?_
        funext k
        have ej : yj u (yn y) k = 0 := by
          rw [hj]
          show (va_up (yj y) (yn y) (fun _ => 0)) (yn y) k = 0
          unfold va_up
          rw [if_pos rfl]
        have ef : yf u (yn y) k = yf c 0 k := congrFun t3 k
        have er : yr u (yn y) k = (yr c 0 k).map (shA (yn y) Q) := t4 k
        unfold yO
        rw [ej, ef, er]
        by_cases hk : k < 82
        · obtain ⟨d1, d2⟩ := c6 k hk
          have hm : mF (yn y) s00 k = if m_off k = 0 then (if k = 9 then .long 0 else .int (s00.1 k)) else .ref (yn y + m_off k) := if_neg (by omega)
          have ht := mF_tab k hk
          rw [hm, d1, d2]
          by_cases z0 : m_off k = 0
          · rw [if_pos z0] at ht
            rw [if_pos z0, if_pos z0]
            by_cases z9 : k = 9
            · rw [if_pos z9] at ht
              rw [if_pos z9, ht]
              rfl
            · rw [if_neg z9] at ht
              rw [if_neg z9]
              exact fv_i ht
          · rw [if_neg z0] at ht
            rw [if_neg z0, if_neg z0, fv_r ht]
            show Value.ref (shA (yn y) Q (m_off k)) = _
            unfold shA
            rw [if_neg (m_off_lt k hk)]
        · have hm : mF (yn y) s00 k = defaultValue (ai_ty 7 k) := if_pos (by omega)
          rw [hm, c7 k (by omega), c9 k (by omega)]
          exact fv_dft _
      · rw [if_neg q0]
        by_cases q1 : yn y < a ∧ a < yn y + 45
        · rw [if_pos q1]
          obtain ⟨j, rfl⟩ : ∃ j, a = yn y + j := ⟨a - yn y, by omega⟩
          rw [show yn y + j - yn y = j by omega]
          obtain ⟨t1, -, t3⟩ := hr.2.2 j (by omega)
          by_cases q2 : j = 2
          · subst q2
            rw [if_pos rfl]
            unfold yC
            rw [t1, c4]
            show _ = some (Sum.inl (3, 11, Sum.inr (Sum.inl (czJ 11 (fun _ => 0)))))
            have : czJ 11 (fun _ => (0 : Int64)) = fun _ => 0 := by
              funext i
              unfold czJ
              split <;> rfl
            rw [this]
          · rw [if_neg (by omega)]
            have d1 := c5 j (by omega) (by omega) q2
            have d2 := c8 j (by omega) (by omega) q2
            have d3 := (t3 _ d1).1
            have hkn : ∀ j, j < 45 → ¬ j = 2 → m_kn j < 4 := by decide
            unfold yC
            rw [t1, d1]
            show some (yA u (yn y + j) (m_kn j, m_ln j)) = some (mA s00 j)
            unfold yA mA
            rw [if_neg q2]
            show some (Sum.inl (m_kn j, m_ln j, if m_kn j < 4 then Sum.inl (ya u (yn y + j)) else _)) = _
            rw [if_pos (hkn j (by omega) q2), d3, d2]
            have : cz (m_ln j) (s00.2.2.1 j) = fun _ => 0 := by
              funext i
              show (if i < m_ln j then (0 : Int32) else 0) = 0
              split <;> rfl
            rw [this]
        · rw [if_neg q1, if_neg (by omega)]
          unfold yC
          have : yt ((fun a => if yn y ≤ a ∧ a < yn y + 45 then none else yt u a), u.2) a = yt u a := if_neg (by omega)
          rw [this]
          rfl
    exact Prod.ext e1 rfl
  · show (if yn y ≤ a ∧ a < yn y + 45 then none else yt u a) = yt y a
    rw [if_neg (by omega)]
    exact f.tag ha
/-- the component is made, with what it keeps -/
theorem c_initF (hQ : cst G 50 = some Q) (h1 : Q < yn y) (h2 : yt y Q = none) : ∃ y', fy_B_init G (nO y 0) (yn y) = some y' ∧ XR G y' (uBeg mu0 0) (yn y) ∧ (yn y ≤ yn y' ∧ yn y' ≤ yn y + 42 ∧ yu y' ≤ yu y + 20000) ∧ ∀ a, a < yn y → yt y' a = yt y a := by
  have r : rlY (yn y) Q (yu y) yZ y := ⟨rfl, ⟨rfl, h1, h2⟩, fun k hk => absurd hk (Nat.not_lt_zero k)⟩
  obtain ⟨c, u, r1, hi, n5, f1, e⟩ := c_init1 (O := fun _ => 0) hQ rfl (yF.refl.no (k := 0)) (r.nO 0)
  have hP := ini_XP r1 hi n5 hQ (fun _ => 0) (fun _ => 0)
  obtain ⟨y', dz, e2, hd, g, hX, f⟩ := c_start hP rv0_wf (fun _ => 0) (fun _ => 0)
  have hn := hi.1
  have r15 : yf u (yn y + 1) 15 = 0 := by
    have t1 := hi.2.2.2.2.2.2.2.1.1
    have q5 := hi.2.2.2.2.2.2.2.2.1.2.2.2.2
    exact (congrFun ((r1.2.2 1 (by omega)).2.1 _ t1).1 15).trans q5
  have hz : dz = 0 := by
    have t1 := r1.t hi.2.2.2.2.2.2.2.1.1 (by omega)
    rw [gI_ok t1, r15] at g
    have g' : iI 0 = iI dz := Option.some.inj g
    rw [iI_eq (by omega) (by omega) (by omega) (by omega)] at g'
    exact g'.symm
  subst hz
  have g1 := f1.1
  have g2 := f.1
  refine ⟨y', ?_, XR.of hX, ⟨by omega, by omega, by omega⟩, fun a ha => ?_⟩
  · have e' : fy_B_init G (nO y 0) (yn y) = (fy_B_start G u (yn y)).bind fun p => some p := e
    rw [e', e2, obs]
  · rw [f.tag (by omega), f1.tag ha]
/-- the law, from its beginning -/
theorem lw_whole {b n n0 u0 : Nat} {f : Nat → Int32} (hG : okW G) (hg : okG G) (hr : G.2 b = some (.inl (0, n, .inl f))) (hn : n ≤ 384) (hN : ∀ a c, G.2 a = some c → a < n0) : ∃ h', ai_call G 134 0 [.ref b] ((fun _ => none), n0, u0) = some (.inl (some (.int 1)), h') ∧ h'.2.1 ≤ n0 + 320087 ∧ h'.2.2 ≤ u0 + 3240029 + 82 + 29 := by
  have hO : hOld G ((fun _ => none), n0, u0) := fun _ _ _ => rfl
  obtain ⟨⟨Q, fQ, hQ, gQ⟩, -⟩ := id hg
  have ho : oldY G (((fun _ => none), (fun _ _ => 0), (fun _ _ => 0), (fun _ _ => none), (fun _ _ => none), (fun _ _ => 0), n0, u0) : yS) := fun a c hc => ⟨rfl, hN a c hc⟩
  have eh : (((fun _ => none), n0, u0) : ai_H) = yH (((fun _ => none), (fun _ _ => 0), (fun _ _ => 0), (fun _ _ => none), (fun _ _ => none), (fun _ _ => 0), n0, u0) : yS) ((fun _ => none), n0, u0) := rfl
  generalize hy0 : (((fun _ => none), (fun _ _ => 0), (fun _ _ => 0), (fun _ _ => none), (fun _ _ => none), (fun _ _ => 0), n0, u0) : yS) = y0 at *
  have hn0 : yn y0 = n0 := by rw [← hy0]
  have hu0 : yu y0 = u0 := by rw [← hy0]
  generalize hh0 : (((fun _ => none), n0, u0) : ai_H) = h0 at *
  obtain ⟨tQ, lQ⟩ := ho Q _ gQ
  obtain ⟨y1, e1, hX, ⟨g1, g2, g3⟩, k1⟩ := c_initF hQ lQ tQ
  have tQ1 : yt y1 Q = none := by rw [k1 Q lQ]; exact tQ
  obtain ⟨u, y3, e2, eH, fy, hb, hn3⟩ := c_minit (G := G) (Q := Q) (y := y1) (by omega) tQ1
  have I : IV G (yn y0) (yn y1) y3 s00 := by
    obtain ⟨O, r, bd, ld, K, sg, hq⟩ := hX
    have hlt := hq.1.1.2.1
    refine ⟨⟨uBeg mu0 0, ⟨O, r, bd, ld, K, sg, hq.fr (fy O) rfl⟩, s00_MR, s00_wf⟩, fun a c hc => ?_, hb, by omega, by omega, fun a c hc => ?_⟩
    · have := ho a c hc
      have h4 := fy (fun _ => 0)
      rw [h4.tag (by omega), k1 a this.2]
      exact ⟨this.1, by omega⟩
    · have := (ho a c hc).2
      omega
  have g4 := (fy (fun _ => 0)).1
  have key : ∀ a, (some () : Option Unit) = some a → PL (n0 + 320087) (u0 + 3240029 + 82 + 29) a (ai_call G (133 + 1) 0 [.ref b] h0) := by
    refine tq_meth (P := PL (n0 + 320087) (u0 + 3240029 + 82 + 29)) (d := 133) (Nat.le_of_ble_eq_true rfl) ?_
    show Tj G 133 0 (PL (n0 + 320087) (u0 + 3240029 + 82 + 29)) (some ()) 0 [some (.ref b), none, none, none] [] h0
    rw [eh]
    refine tq_new dL_law_0 rfl rfl yH_nO ?_
    refine tq_dup dL_law_3 rfl ?_
    refine tl_callC [] dL_law_4 rfl rfl rfl rfl (Nat.le_of_ble_eq_true rfl) rfl (wfy_B_init (d := 127) hO (nO y0 0) (yn y0) _ e1) ?_
    refine tq_astore_n dL_law_7 (Nat.le_of_ble_eq_true rfl) rfl ?_
    refine tq_new dL_law_8 rfl rfl yH_nO ?_
    refine tq_dup dL_law_11 rfl ?_
    refine tl_callC [] dL_law_12 rfl rfl rfl rfl (Nat.le_of_ble_eq_true rfl) rfl (wfy_m_init (d := 132) hO (nO y1 7) (yn y1) _ e2) ?_
    rw [eH h0]
    refine tq_astore_n dL_law_15 (Nat.le_of_ble_eq_true rfl) rfl ?_
    refine tq_iconst dL_law_16 (v := iI 0) rfl ?_
    refine tq_istore_n dL_law_17 (Nat.le_of_ble_eq_true rfl) rfl ?_
    exact lw_loop hO hG hg hr hn 64 y3 s00 0 (by omega) (by omega) (by omega) I (by omega) (by omega)
  exact key () rfl
end P6

/-! LAYER 3, the formula: signs of one level, from the left -/
set_option maxRecDepth 100000
section M5
variable {G : ai_G} {O : Nat → Nat} {T : Int → Int} {n : Int} {R A F r : Nat}
theorem flS_app (P Q : List Int) : flS (P ++ Q) = flS P ++ flS Q := by simp [flS]
theorem flS_len (P : List Int) : (flS P).length = P.length := by simp [flS]
/-- a node of two parts is done -/
theorem c_two {y y2 : yS} {τ : Tk} {u m d : Int} {a0 v w k : Nat} {c : Int} {lv lw : List (Nat × Int32)} (h : CF G O T n R A F r y τ u m d) (hO : O a0 = 1) (ha : a0 < yn y) (ht : yt y a0 = some (.inr 14)) (hr : yr y a0 1 = none) (hv : trY O y k v lv) (hw : trY O y k w lw) : ∃ y3, fy_Two_init G y a0 (iI c) v w = some y3 ∧ CF G O T n R A F r y3 τ u m d ∧ atY a0 y y3 ∧ trY O y3 (k + 1) a0 (lv ++ (lw ++ [(3, iI c)])) := by
  have hR : ¬ R = a0 := fun z => by have := h.1.1.1.1; rw [z, ht] at this; cases this
  have hr' : ¬ r = a0 := fun z => by have := h.2.1.1; rw [z, ht] at this; cases this
  have f : atY a0 y (sR (sR (sF y a0 0 (iI c)) a0 1 (some v)) a0 2 (some w)) := ((atY.refl.sf).sr).sr
  refine ⟨sR (sR (sF y a0 0 (iI c)) a0 1 (some v)) a0 2 (some w), ?_, h.at f hR hr', f, ⟨hO, ha⟩, Or.inr (Or.inr (Or.inr ⟨ht, v, w, lv, lw, ?_, ?_, trY.at f (Or.inl ⟨ht, hr⟩) _ _ _ hv, trY.at f (Or.inl ⟨ht, hr⟩) _ _ _ hw, ?_⟩))⟩
  · unfold fy_Two_init fy_Part_init
    rw [obs, wI_ok ht, obs, wR_ok (show yt (sF y a0 0 (iI c)) a0 = some (.inr 14) from ht), obs, wR_ok (show yt (sR (sF y a0 0 (iI c)) a0 1 (some v)) a0 = some (.inr 14) from ht), obs]
  · rw [sR_get, if_neg (by omega), sR_get, if_pos ⟨rfl, rfl⟩]
  · rw [sR_get, if_pos ⟨rfl, rfl⟩]
  · rw [show yf (sR (sR (sF y a0 0 (iI c)) a0 1 (some v)) a0 2 (some w)) a0 0 = iI c from (sF_get (a := a0) (k := 0) (a' := a0) (j := 0)).trans (if_pos ⟨rfl, rfl⟩)]
theorem J_level (hT : txO T n) {dm lam lamS : Int} {preX preS : List Int → Tk → Prop} {sub : yS → Nat → Option ((Nat ⊕ Nat) × yS)} {b : (Nat × yS) → Option ((Nat × yS) ⊕ ((Nat × yS) ⊕ ((Nat ⊕ Nat) × yS)))} (hS : JN G O T n R A F r dm preS lamS sub) (hlam : lam < lamS) (h4 : ¬ lam = 4) (hp1 : ∀ S τ, preX S τ → preS S τ ∧ lowT lam S) (hp2 : ∀ S τ c, tg c = lam → ¬ c = 20 → preS (c :: S) τ) (hst : ∀ τ S, stq lamS τ S → (sgT τ = 0 ∨ ¬ tg (sgT τ) = lam) → stq lam τ S)
    (hb : ∀ y τ u m d v, CF G O T n R A F r y τ u m d → (¬ sgT τ = 0 ∧ tg (sgT τ) = lam → ∃ y1, CF G O T n R A F r y1 (tk T n (tE τ)) u m d ∧ yF O LF 0 0 y y1 ∧ b (v, y) = (sub (nO y1 14) R).bind fun p => Sum.elim (fun q => some (.inr (.inr (.inl q, p.2)))) (fun v2 => (fy_Two_init G p.2 (yn y1) (iI (sgT τ)) v v2).bind fun p55 => some (.inl (yn y1, p55))) p.1) ∧ (¬ (¬ sgT τ = 0 ∧ tg (sgT τ) = lam) → b (v, y) = some (.inr (.inl (v, y)))))
    {X : yS → Nat → Option ((Nat ⊕ Nat) × yS)} (hX : ∀ y, X y R = (ck 8 y R).bind fun _ => (sub y R).bind fun p1 => Sum.elim (fun q1 => some (.inl q1, p1.2)) (fun v1 => (lp b (v1, p1.2)).bind (Sum.elim (fun q5 => some (.inr q5.1, q5.2)) (fun q5r => some q5r))) p1.1) : JN G O T n R A F r dm preX lam X := by
  intro y0 s0 τ0 u0 m0 d S l hJ hdm hpre
  obtain ⟨hq1, hq2⟩ := hp1 S τ0 hpre
  have hn := hT.1
  have hd := hJ.2.2.2.2.1
  -- the loop
  have loop : ∀ (k : Nat) (y : yS) (s : mS) (τ : Tk) (u m : Int) (P : List Int) (lo lv : List (Nat × Int32)) (v c e : Nat), (30 - m).toNat = k → CF G O T n R A F r y τ u m d → MF T n s τ u m (d + ntS P) (P ++ S) lo → mU s0 = mB s → lo ++ flS P = l ++ lv → trY O y (m - m0 + 7 - d).toNat v lv → (∀ c ∈ P, ¬ c = 20 ∧ lam ≤ tg c) → stq lamS τ (P ++ S) → (m0 < m ∧ m ≤ 30 ∧ 0 ≤ u ∧ u ≤ 60 ∧ d + ntS P ≤ 7) → (((P ++ S).length : Int) + 1 ≤ m + (d + ntS P) ∧ (lo.length : Int) + (P ++ S).length + 1 ≤ 9 * m) → yF O LF c e y0 y → c ≤ (tP τ - tP τ0).toNat → e ≤ 20 * (tP τ - tP τ0).toNat → tP τ0 < tP τ → fr FK0 FJ s0 s → JBad O F y0 s0 (tP τ0) ((lp b (v, y)).bind (Sum.elim (fun q5 => some ((.inr q5.1 : Nat ⊕ Nat), q5.2)) (fun q5r => some q5r))) (mU s0) ∨ JOk G O T n R A F r lam y0 s0 τ0 m0 d S l ((lp b (v, y)).bind (Sum.elim (fun q5 => some ((.inr q5.1 : Nat ⊕ Nat), q5.2)) (fun q5r => some q5r))) (mU s0) := by
    intro k
    induction k using Nat.strongRecOn with
    | _ k ih =>
      intro y s τ u m P lo lv v c e hk hC hM hmU hlo htr hP hstq hbd hlen hf hc he htp hfr
      have nb := ntS_b P
      have ht := hC.1.2.2
      obtain ⟨b1, b2⟩ := hb y τ u m d v hC
      by_cases hop : ¬ sgT τ = 0 ∧ tg (sgT τ) = lam
      · obtain ⟨y1, hC1, f1, eb⟩ := b1 hop
        obtain ⟨o1, o2⟩ := hop
        obtain ⟨n41, n3⟩ := sgT_41 o1
        obtain ⟨n20, n21⟩ := sgT_20 (τ := τ)
        have n0 : ¬ tS τ = 0 := by
          intro z
          apply o1
          unfold sgT
          rw [if_neg (fun q => by have := q.1; omega), if_neg (fun q => by have := q.1; omega), if_neg (by omega)]
        have hpe : tP τ < tE τ := ht.2.2.2.1 n0 n3
        obtain ⟨ht1, hp1'⟩ := tk_ok (T := T) (n := n) (p := tE τ) (by have := ht.1; omega) (by have := ht.1; omega)
        simp only [List.length_append] at hlen
        obtain ⟨s1, j1, j2, j3⟩ := B_op hT hM o1 (fun z => by omega) (fun c hc => ⟨(hP c hc).1, by have := (hP c hc).2; omega⟩) (by rw [o2]; exact hq2) (by simp only [List.length_append]; omega) (by omega)
        rw [hlo] at j2
        have e0 : d + ntS P - ntS P = d := by omega
        rw [e0] at j2
        have fn := nO_F (O := O) (y := y1) (k := 14)
        have hC1' := hC1.fr0 fn
        have hll : (l ++ lv).length = lo.length + P.length := by rw [← hlo, List.length_append, flS_len]
        have hO1 : O (yn y1) = 1 := hC1.2.2.2.2.2.2.2.2.2.2 _ (Nat.le_refl _)
        have t14 : yt (nO y1 14) (yn y1) = some (.inr 14) := by rw [nO_t, if_pos rfl]
        have r14 : yr (nO y1 14) (yn y1) = fun _ => none := by rw [nO_r, if_pos rfl]
        have n14 : yn y1 < yn (nO y1 14) := by show yn y1 < yn y1 + 1; omega
        have fy1 : yF O LF (c + 1) (e + ai_nf 14) y0 (nO y1 14) := ((hf.trans f1).trans (fn.m0 (L' := LF) rfl)).mono rfl (by omega) (by omega)
        have h14 : ai_nf 14 ≤ 20 := by decide
        rw [hmU, j1]
        rcases hS (nO y1 14) s1 (tk T n (tE τ)) u m d (sgT τ :: S) (l ++ lv) ⟨hC1', j2, by omega, by omega, hd, by simp only [List.length_cons]; omega, by simp only [List.length_cons]; omega⟩ hdm (hp2 S _ _ o2 n20) with hbad | hok
        · left
          refine hbad.up (fun y' e' => ?_) rfl fy1 (hfr.trans j3) (by omega) (by omega) (by omega)
          rw [e', obs] at eb
          rw [lp_out eb, obs]
          rfl
        · obtain ⟨y2, s2, a2, τ2, u2, m2, lo2, l2, P2, k1, k2, k3, k4, k5, k6, ⟨k7, k8⟩, k9, k10, k11, k12, k13⟩ := hok
          have ta : yt y2 (yn y1) = some (.inr 14) := by rw [k11.tag n14]; exact t14
          have ra : yr y2 (yn y1) 1 = none := by rw [k11.ref n14 (by rw [hO1]; rfl), r14]
          have la : yn y1 < yn y2 := Nat.lt_of_lt_of_le n14 k11.nx
          have htr2 : trY O y2 (m2 - m0 + 7 - d - 1).toNat v lv := (trY.fr k11 rfl rfl _ _ _ (trY.fr fn rfl rfl _ _ _ (trY.fr f1 rfl rfl _ _ _ htr))).le (by omega)
          have hta2 : trY O y2 (m2 - m0 + 7 - d - 1).toNat a2 l2 := k6.le (by omega)
          obtain ⟨y3, w1, w2, w3, w4⟩ := c_two (y2 := y2) (c := sgT τ) k3 hO1 la ta ra htr2 hta2
          have ebk : b (v, y) = some (.inl (yn y1, y3)) := by
            rw [eb, k1, obs]
            simp only [Sum.elim_inr]
            rw [w1, obs]
          rw [lp_back ebk]
          have happ : (P2 ++ [sgT τ]) ++ S = P2 ++ sgT τ :: S := by simp
          have hnt : ntS (P2 ++ [sgT τ]) = ntS P2 := by rw [ntS_app]; simp only [ntS, if_neg n21]; omega
          have hlf : (flS [sgT τ]) = [(3, iI (sgT τ))] := by simp [flS, n21]
          have fy3 : yF O LF (c + 1 + (tP τ2 - tP (tk T n (tE τ))).toNat) (e + ai_nf 14 + 20 * (tP τ2 - tP (tk T n (tE τ))).toNat) y0 y3 := (fy1.trans k11).at w3 (by have := hf.nx; have := f1.nx; omega)
          have hres := ih (30 - m2).toNat (by omega) y3 s2 τ2 u2 m2 (P2 ++ [sgT τ]) lo2 (lv ++ (l2 ++ [(3, iI (sgT τ))])) (yn y1) _ _ rfl w2 (by rw [hnt, happ]; exact k4) (hmU.trans (j1.trans k2)) (by rw [flS_app, hlf, ← List.append_assoc, k5]; simp) (w4.le (by omega)) (fun c hc => by
            rcases List.mem_append.mp hc with hc | hc
            · exact ⟨(k7 c hc).1, by have := (k7 c hc).2; omega⟩
            · rw [List.mem_singleton.mp hc]; exact ⟨n20, by omega⟩) (by rw [happ]; exact k8) (by rw [hnt]; omega) (by rw [hnt, happ]; exact k10) fy3 (by omega) (by omega) (by omega) ((hfr.trans j3).trans k13)
          rw [← j1, ← hmU]
          exact hres
      · have eb := b2 hop
        right
        rw [lp_out eb, obs]
        refine ⟨y, s, v, τ, u, m, lo, lv, P, rfl, hmU, hC, hM, hlo, htr, ⟨hP, hst τ _ hstq ?_⟩, hbd, hlen, hf.mono rfl hc he, htp, hfr⟩
        by_cases z : sgT τ = 0
        · exact Or.inl z
        · exact Or.inr (fun q => hop ⟨z, q⟩)
  rw [hX, ck_ok hJ.1.1.1.1.1, obs]
  rcases hS y0 s0 τ0 u0 m0 d S l hJ hdm hq1 with hbad | hok
  · left
    refine hbad.up (fun y' e => ?_) rfl yF.refl fr.refl (Int.le_refl _) (by omega) (by omega)
    rw [e, obs]
    rfl
  · obtain ⟨y1, s1, a1, τ1, u1, m1, lo1, l1, P1, k1, k2, k3, k4, k5, k6, ⟨k7, k8⟩, k9, k10, k11, k12, k13⟩ := hok
    rw [k1, obs]
    simp only [Sum.elim_inr]
    exact loop _ y1 s1 τ1 u1 m1 P1 lo1 l1 a1 _ _ rfl k3 k4 k2 k5 k6 (fun c hc => ⟨(k7 c hc).1, by have := (k7 c hc).2; omega⟩) k8 k9 k10 k11 (Nat.le_refl _) (Nat.le_refl _) k12 k13
end M5

/-! LAYER 3, the component: lists are written; new states -/
set_option maxRecDepth 100000
def okG (G : ai_G) : Prop := (∃ q f, cst G 50 = some q ∧ G.2 q = some (.inl (4, 0, f))) ∧ ∃ m, cst G 40 = some m
theorem iI_ofNat (n : Nat) : Int32.ofNat n = iI n := (Int32.ofInt_eq_ofNat (n := n)).symm
theorem shr_tab : ∀ c : Fin 128, iI c.val >>> (iI 1 &&& iI 31) = iI (c.val / 2 : Nat) := by decide +kernel
theorem shr_i {z : Int} (h1 : 0 ≤ z) (h2 : z < 128) : iI z >>> (iI 1 &&& iI 31) = iI (z / 2) := by
  obtain ⟨k, rfl⟩ : ∃ k : Nat, z = k := ⟨z.toNat, by omega⟩
  have := shr_tab ⟨k, by omega⟩
  rw [show ((k : Int) / 2) = ((k / 2 : Nat) : Int) by omega]
  exact this
section FRS
variable {O : Nat → Nat} {L : List Nat} {c d : Nat} {y y1 : yS} {a k : Nat}
/-- new cells may be written -/
theorem yF.saN {g : Nat → Int32} (f : yF O L c d y y1) (h : yn y ≤ a) : yF O L c d y (sA y1 a g) := by
  obtain ⟨a1, a4, a5, a6⟩ := f
  refine ⟨a1, a4, fun q hq hl => ?_, a6⟩
  have hne : ¬ q = a := by omega
  obtain ⟨u1, u2, u3, u4⟩ := a5 q hq hl
  exact ⟨Eq.trans (if_neg hne) u1, u2, u3, u4⟩
theorem yF.seN {g : Nat → Option Nat} (f : yF O L c d y y1) (h : yn y ≤ a) : yF O L c d y (sE y1 a g) := by
  obtain ⟨a1, a4, a5, a6⟩ := f
  refine ⟨a1, a4, fun q hq hl => ?_, a6⟩
  have hne : ¬ q = a := by omega
  obtain ⟨u1, u2, u3, u4⟩ := a5 q hq hl
  exact ⟨u1, Eq.trans (if_neg hne) u2, u3, u4⟩
theorem yF.srN {g : Option Nat} (f : yF O L c d y y1) (h : yn y ≤ a) : yF O L c d y (sR y1 a k g) := by
  obtain ⟨a1, a4, a5, a6⟩ := f
  refine ⟨a1, a4, fun q hq hl => ?_, a6⟩
  have hne : ¬ q = a := by omega
  obtain ⟨u1, u2, u3, u4⟩ := a5 q hq hl
  exact ⟨u1, u2, Eq.trans (if_neg hne) u3, u4⟩
theorem yF.sjN {g : Int64} (f : yF O L c d y y1) (h : yn y ≤ a) : yF O L c d y (sJ y1 a k g) := by
  obtain ⟨a1, a4, a5, a6⟩ := f
  refine ⟨a1, a4, fun q hq hl => ?_, a6⟩
  have hne : ¬ q = a := by omega
  obtain ⟨u1, u2, u3, u4⟩ := a5 q hq hl
  exact ⟨u1, u2, u3, Eq.trans (if_neg hne) u4⟩
theorem yF.sfN {v : Int32} (f : yF O L c d y y1) (h : yn y ≤ a) : yF O L c d y (sF y1 a k v) := by
  obtain ⟨a1, a4, a5, a6⟩ := f
  refine ⟨a1, a4, a5, fun q j hq hl => ?_⟩
  rw [sF_get, if_neg (by omega)]
  exact a6 q j hq hl
theorem nA_t {kd n : Nat} : yt (nA y kd n) a = if a = yn y then some (.inl (kd, n)) else yt y a := rfl
theorem nO_t {kd : Nat} : yt (nO y kd) a = if a = yn y then some (.inr kd) else yt y a := rfl
theorem nA_e {kd n : Nat} : ye (nA y kd n) a = if a = yn y then (fun _ => none) else ye y a := rfl
theorem nA_a {kd n : Nat} : ya (nA y kd n) a = if a = yn y then (fun _ => 0) else ya y a := rfl
theorem nO_r {kd : Nat} : yr (nO y kd) a = if a = yn y then (fun _ => none) else yr y a := rfl
theorem nO_f {kd : Nat} : yf (nO y kd) a = if a = yn y then (fun _ => 0) else yf y a := rfl
theorem sR_get {b j : Nat} {v : Option Nat} : yr (sR y a k v) b j = if b = a ∧ j = k then v else yr y b j := by
  show va_up (yr y) a (va_up (yr y a) k v) b j = _
  unfold va_up
  by_cases h : b = a
  · subst h
    simp only [if_true, true_and]
  · simp only [if_neg h, h, false_and, if_false]
theorem sE_get {b : Nat} {g : Nat → Option Nat} : ye (sE y a g) b = if b = a then g else ye y b := rfl
theorem mka_i {kd : Nat} {z : Int} (h1 : 0 ≤ z) (h2 : z ≤ 65536) : mka kd y (iI z) = some (yn y, nA y kd z.toNat) := by
  unfold mka
  rw [iI_clamp h1 (by omega), if_neg]
  rw [i0, iI_lt (by omega) (by omega) (by omega) (by omega)]
  omega
theorem wR_ok {cc : Nat} {v : Option Nat} (h : yt y a = some (.inr cc)) : wR cc k y a v = some (sR y a k v) := if_pos h
theorem wI_ok {cc : Nat} {v : Int32} (h : yt y a = some (.inr cc)) : wI cc k y a v = some (sF y a k v) := if_pos h
theorem gI_ok {cc : Nat} (h : yt y a = some (.inr cc)) : gI cc k y a = some (yf y a k) := if_pos h
theorem gR_ok {cc q : Nat} (h : yt y a = some (.inr cc)) (hr : yr y a k = some q) : gR cc k y a = some q := by unfold gR; rw [if_pos h, hr]
theorem ck_ok {cc : Nat} (h : yt y a = some (.inr cc)) : ck cc y a = some () := if_pos h
theorem wE_n {t m : Nat} {z : Int} {v : Option Nat} (ht : yt y a = some (.inl (t, m))) (hk : okE y t v = true) (h1 : 0 ≤ z) (h2 : z < m) (h3 : m < 2147483648) : wE y a (iI z) v = some (sE y a (va_up (ye y a) z.toNat v)) := by
  unfold wE
  rw [ht]
  simp only
  rw [if_pos ⟨hk, inb_i h1 h2 h3⟩, iI_clamp h1 (by omega)]
theorem cpE_n {n0 n1 b : Nat} {sp dp z : Int} (h0 : yt y b = some (.inl (4, n0))) (h1 : yt y a = some (.inl (4, n1))) (h2 : 0 ≤ z) (h3 : 0 ≤ sp) (h4 : 0 ≤ dp) (h5 : sp + z ≤ n0) (h6 : dp + z ≤ n1) (h7 : n0 < 2147483648) (h8 : n1 < 2147483648) (hk : ∀ i : Nat, (i : Int) < z → okE y 4 (ye y b (sp.toNat + i)) = true) : cpE y b (iI sp) a (iI dp) (iI z) = some (sE y a (va_cpy (ye y b) (ye y a) sp.toNat dp.toNat z.toNat)) := by
  have e0 : (iI sp).toNatClampNeg = sp.toNat := iI_clamp h3 (by omega)
  have e1 : (iI dp).toNatClampNeg = dp.toNat := iI_clamp h4 (by omega)
  have ek : (iI z).toNatClampNeg = z.toNat := iI_clamp h2 (by omega)
  unfold cpE
  rw [h0, h1]
  simp only [e0, e1, ek]
  rw [if_pos]
  refine ⟨?_, trivial, trivial, by omega, by omega, List.all_eq_true.mpr (fun i hi => hk i (by have := List.mem_range.mp hi; omega))⟩
  rw [i0]
  simp (disch := omega) only [iI_lt]
  omega
theorem okE_o {cc q : Nat} (h : yt y q = some (.inr cc)) (hc : cc < ai_ncl) : okE y 4 (some q) = true := by
  unfold okE
  simp only [h]
  simp [hc]
end FRS
section LS2
variable {G : ai_G} {O : Nat → Nat} {L : List Nat} {c d : Nat} {y y1 : yS} {l lab : Nat} {n : Int} {els : Nat → Nat}
theorem lsY.congr {els' : Nat → Nat} (h : lsY G O y l lab n els) (e : ∀ i : Nat, (i : Int) < n → els' i = els i) : lsY G O y l lab n els' := by
  obtain ⟨a, a5, q, b1, b2, b3, b4⟩ := h
  exact ⟨a, a5, q, b1, b2, fun i hi => by rw [e i hi]; exact b3 i hi, b4⟩
theorem l_isEmpty (h : lsY G O y l lab n els) (hn : n ≤ 100) : fy_List_isEmpty G y l = some (iI (if n = 0 then 1 else 0)) := by
  have h0 := h.2.1
  unfold fy_List_isEmpty
  rw [gI_ok h.1.1, obs, h.1.2.2.2, i0]
  simp (disch := omega) only [iI_eq]
  split <;> rfl
theorem lbF_ne {a k : Nat} (e : O a = lab) (h5 : ¬ lab = 5) : lbF O a k = 100 + lab := by unfold lbF; rw [e, if_neg h5]
theorem l_clear (h : lsY G O y l lab n els) (h5 : ¬ lab = 5) (hn : n ≤ 100) : ∃ y', fy_List_clear G y l = some y' ∧ yF O [lab, 100 + lab] 0 0 y y' ∧ ∀ els', lsY G O y' l lab 0 els' := by
  obtain ⟨⟨a1, a2, a3, a4⟩, a5, q, b1, b2, b3, b4⟩ := h
  have ht : ∀ (u : yS), yt u = yt y → yt u l = some (.inr 16) := fun u e => by rw [e]; exact a1
  have f0 : yF O [lab, 100 + lab] 0 0 y (sF (sF y l 0 (yf y l 0 + 1)) l 2 (iI 0)) := (yF.refl.sf (by rw [lbF_ne a2 h5]; simp)).sf (by rw [lbF_ne a2 h5]; simp)
  have hq9 : n = 0 ∨ ∃ cap : Nat, yt y q = some (.inl (4, cap)) ∧ n ≤ cap ∧ (1 ≤ cap ∧ cap ≤ 100) ∧ O q = lab := by
    rcases b4 with z | z
    · exact Or.inl z.1
    · exact Or.inr z
  have hloop : ∃ s, lp (fy_List_clear_b27 G q (iI n)) (iI 0, sF (sF y l 0 (yf y l 0 + 1)) l 2 (iI 0)) = some s ∧ (yF O [lab, 100 + lab] 0 0 y s ∧ yt s = yt y ∧ yr s = yr y ∧ yn s = yn y ∧ yf s l 2 = iI 0) := by
    refine lp_inv (fun i s => s.1 = iI i ∧ yF O [lab, 100 + lab] 0 0 y s.2 ∧ yt s.2 = yt y ∧ yr s.2 = yr y ∧ yn s.2 = yn y ∧ yf s.2 l 2 = iI 0) n.toNat ?_ ?_ ⟨rfl, f0, rfl, rfl, rfl, by rw [sF_get, if_pos ⟨rfl, rfl⟩]⟩
    · rintro i ⟨k, u⟩ hi ⟨g1, g2, g3, g4, g5, g6⟩
      simp only at g1 g2 g3 g4 g5 g6
      subst g1
      rcases hq9 with hz | ⟨cap, z1, z2, z3, z4⟩
      · omega
      · left
        refine ⟨(iI ((i : Int) + 1), sE u q (va_up (ye u q) (i : Int).toNat none)), ?_, rfl, g2.se (by rw [z4]; simp), g3, g4, g5, g6⟩
        have ew := wE_n (y := u) (a := q) (t := 4) (m := cap) (z := i) (v := none) (by rw [g3]; exact z1) rfl (by omega) (by omega) (by omega)
        simp (disch := omega) only [fy_List_clear_b27, iI_lit, iI_add, iI_sub, iI_mul, iI_neg, obs, if_true, if_false, Int.reduceEq, Int.reduceLE, Int.reduceLT, Int.reduceAdd, Int.reduceSub, Int.reduceMul, Int.reduceNeg, Nat.reduceEqDiff, iI_le, iI_lt, iI_eq, ew]
        rw [if_neg (by omega)]
    · rintro ⟨k, u⟩ ⟨g1, g2⟩
      simp only at g1 g2
      subst g1
      refine ⟨u, ?_, g2⟩
      simp (disch := omega) only [fy_List_clear_b27, iI_lit, iI_add, iI_sub, iI_mul, iI_neg, obs, if_true, if_false, Int.reduceEq, Int.reduceLE, Int.reduceLT, Int.reduceAdd, Int.reduceSub, Int.reduceMul, Int.reduceNeg, Nat.reduceEqDiff, iI_le, iI_lt, iI_eq]
      rw [if_pos (by omega)]
  obtain ⟨s, es, s1, s2, s3, s4, s5⟩ := hloop
  refine ⟨s, ?_, s1, fun els' => ⟨⟨ht s s2, a2, by omega, s5⟩, Int.le_refl _, q, by rw [s3]; exact b1, by omega, fun i hi => by omega, ?_⟩⟩
  · unfold fy_List_clear
    rw [gI_ok a1, obs, wI_ok a1, obs, gR_ok (ht (sF y l 0 (yf y l 0 + 1)) rfl) b1, obs, gI_ok (ht (sF y l 0 (yf y l 0 + 1)) rfl), obs, wI_ok (ht (sF y l 0 (yf y l 0 + 1)) rfl), obs]
    rw [sF_get, if_neg (by omega), a4, show (0 : Int32) = iI 0 from rfl, es]
    rfl
  · rw [s2]
    rcases b4 with z | ⟨cap, z1, z2, z3, z4⟩
    · exact Or.inl ⟨rfl, z.2⟩
    · exact Or.inr ⟨cap, z1, by omega, z3, z4⟩
theorem l_add {v : Nat} (hG : okG G) (h : lsY G O y l lab n els) (hn : n ≤ 40) (hv : ∃ cc, yt y v = some (.inr cc) ∧ cc < ai_ncl) (hvn : v < yn y) (hE : ∀ i : Nat, (i : Int) < n → els i < yn y ∧ ∃ cc, yt y (els i) = some (.inr cc) ∧ cc < ai_ncl) (hO : O (yn y) = lab) (h5 : ¬ lab = 5) : ∃ y', fy_List_add G y l v = some (1, y') ∧ yF O [lab, 100 + lab] 1 60 y y' ∧ lsY G O y' l lab (n + 1) (fun i => if i = n.toNat then v else els i) := by
  obtain ⟨⟨a1, a2, a3, a4⟩, a5, q, b1, b2, b3, b4⟩ := h
  obtain ⟨⟨q50, f50, hc50, hg50⟩, m40, hc40⟩ := hG
  have o0 : [lab, 100 + lab].contains (lbF O l 0) = true := by rw [lbF_ne a2 h5]; simp
  have o2 : [lab, 100 + lab].contains (lbF O l 2) = true := by rw [lbF_ne a2 h5]; simp
  have ol : [lab, 100 + lab].contains (O l) = true := by rw [a2]; simp
  have core : ∀ y0 : yS, yF O [lab, 100 + lab] 0 0 y y0 → yt y0 = yt y → yr y0 = yr y → ye y0 = ye y → yn y0 = yn y → yf y0 l 2 = iI n → ∃ y1 q1 cap1, fy_List_add_2 G y0 l v q (iI n) = fy_List_add_2_j11 G y1 l v q1 (iI n) ∧ yF O [lab, 100 + lab] 1 60 y y1 ∧ yt y1 q1 = some (.inl (4, cap1)) ∧ n < (cap1 : Nat) ∧ (1 ≤ cap1 ∧ cap1 ≤ 100) ∧ O q1 = lab ∧ q1 < yn y1 ∧ yr y1 l 1 = some q1 ∧ (∀ i : Nat, (i : Int) < n → ye y1 q1 i = some (els i)) := by
    intro y0 f0 et er ee en ef
    have a1' : yt y0 l = some (.inr 16) := by rw [et]; exact a1
    have e1 : ck 16 y0 l = some () := ck_ok a1'
    have e2 : gI 16 2 y0 l = some (iI n) := by rw [gI_ok a1', ef]
    have e3 : gR 16 1 y0 l = some q := gR_ok a1' (by rw [er]; exact b1)
    rcases b4 with ⟨z1, z2, z3⟩ | ⟨cap, z1, z2, z3, z4⟩
    · subst z1
      obtain rfl : q50 = q := by rw [hc50] at z2; exact Option.some.inj z2
      have ht1 : yt (nA y0 4 10) l = some (.inr 16) := by rw [nA_t, if_neg (by omega)]; exact a1'
      have eL : aL G y0 q50 = some (iI 0) := by
        unfold aL
        rw [et, z3]
        simp only [hg50]
        rfl
      have e4 : imax (iI 10) (iI 1) = iI 10 := by decide
      have e5 := mka_i (y := y0) (kd := 4) (z := 10) (by omega) (by omega)
      rw [en] at e5
      have e6 : wR 16 1 (nA y0 4 10) l (some (yn y)) = some (sR (nA y0 4 10) l 1 (some (yn y))) := wR_ok ht1
      refine ⟨sR (nA y0 4 10) l 1 (some (yn y)), yn y, 10, ?_, (((f0.na (k := 4) (n := 10)).mono (c' := 1) (d' := 60) (by simp) (by omega) (by omega)).sr ol), ?_, by omega, by omega, hO, by show yn y < yn y0 + 1; omega, by rw [sR_get, if_pos ⟨rfl, rfl⟩], fun i hi => by omega⟩
      · simp only [fy_List_add_2, fy_List_grow, fy_List_grow_2, eL, e1, e2, e3, iI_lit, iI_add, iI_sub, iI_mul, iI_neg, obs, if_true, if_false, Int.reduceEq, Int.reduceLE, Int.reduceLT, Int.reduceAdd, Int.reduceSub, Int.reduceMul, Int.reduceNeg, Nat.reduceEqDiff, hc50, e4, e5, Int.reduceToNat, e6, show ¬ iI 0 < iI 0 by decide]
      · show yt (nA y0 4 10) (yn y) = _
        rw [nA_t, if_pos en.symm]
    · have zt : yt y0 q = some (.inl (4, cap)) := by rw [et]; exact z1
      have eL : aL G y0 q = some (iI cap) := by
        unfold aL
        rw [zt]
        simp only [iI_ofNat]
        rfl
      by_cases hf : n = cap
      · have hcap : cap ≤ 40 := by omega
        have hqO : ¬ q = yn y0 := by omega
        have hlO : ¬ l = yn y0 := by omega
        generalize hm : (cap : Int) + (if (cap : Int) / 2 ≤ 1 then 1 else (cap : Int) / 2) = m
        have hm1 : (cap : Int) < m ∧ m ≤ 60 := by rw [← hm]; split <;> omega
        have tq : yt (nA y0 4 m.toNat) q = some (.inl (4, cap)) := by rw [nA_t, if_neg hqO]; exact zt
        have tn : yt (nA y0 4 m.toNat) (yn y) = some (.inl (4, m.toNat)) := by rw [nA_t, if_pos en.symm]
        have tl : yt (nA y0 4 m.toNat) l = some (.inr 16) := by rw [nA_t, if_neg hlO]; exact a1'
        have eeq : ye (nA y0 4 m.toNat) q = ye y q := by rw [nA_e, if_neg hqO, ee]
        have ecp := cpE_n (y := nA y0 4 m.toNat) (b := q) (a := yn y) (sp := 0) (dp := 0) (z := cap) tq tn (by omega) (by omega) (by omega) (by omega) (by omega) (by omega) (by omega) (fun i hi => by
          obtain ⟨k1, cc, k2, k3⟩ := hE i (by omega)
          rw [eeq, show (0 : Int).toNat + i = i by simp, b3 i (by omega)]
          refine okE_o (cc := cc) ?_ k3
          rw [nA_t, if_neg (show ¬ els i = yn y0 by omega), et]
          exact k2)
        refine ⟨sR (sE (nA y0 4 m.toNat) (yn y) (va_cpy (ye (nA y0 4 m.toNat) q) (ye (nA y0 4 m.toNat) (yn y)) (0 : Int).toNat (0 : Int).toNat (cap : Int).toNat)) l 1 (some (yn y)), yn y, m.toNat, ?_, ?_, tn, by omega, by omega, hO, by show yn y < yn y0 + 1; omega, by rw [sR_get, if_pos ⟨rfl, rfl⟩], fun i hi => ?_⟩
        · have e4 := shr_i (z := cap) (by omega) (by omega)
          have e5 := mka_i (y := y0) (kd := 4) (z := m) (by omega) (by omega)
          rw [en] at e5
          have e6 : ckA y0 q = some () := by
            unfold ckA
            rw [zt]
            rfl
          have e7 : aL G (nA y0 4 m.toNat) q = some (iI cap) := by
            unfold aL
            rw [tq]
            simp only [iI_ofNat]
            rfl
          have e8 : imin (iI cap) (iI m) = iI cap := by rw [imin_i (by omega) (by omega) (by omega) (by omega), if_neg (by omega)]
          have e9 : imax (iI 1) (iI ((cap : Int) / 2)) = iI (if (cap : Int) / 2 ≤ 1 then 1 else (cap : Int) / 2) := imax_i (by omega) (by omega) (by omega) (by omega)
          have e10 : fy_J11_newLength (iI cap) (iI 1) (iI ((cap : Int) / 2)) = some (iI m) := by
            unfold fy_J11_newLength
            rw [e9, iI_add, hm]
            simp (disch := omega) only [iI_lit, iI_add, iI_sub, iI_mul, iI_neg, obs, if_true, if_false, Int.reduceEq, Int.reduceLE, Int.reduceLT, Int.reduceAdd, Int.reduceSub, Int.reduceMul, Int.reduceNeg, Nat.reduceEqDiff, iI_le, iI_lt, iI_eq]
            rw [if_neg (by omega), if_neg (by omega)]
          have e11 : ∀ u : yS, yt u l = some (.inr 16) → wR 16 1 u l (some (yn y)) = some (sR u l 1 (some (yn y))) := fun u hu => wR_ok hu
          subst hf
          unfold fy_List_add_2
          rw [eL, obs, if_pos rfl, e1, obs]
          unfold fy_List_grow
          rw [e2, obs, e1, obs]
          unfold fy_List_grow_2
          rw [e3, obs, eL, obs, i0, if_pos (by rw [iI_lt (by omega) (by omega) (by omega) (by omega)]; omega)]
          unfold fy_List_grow_2_j20
          rw [i1, iI_add, iI_sub, show ((cap : Int) + 1 - (cap : Int)) = 1 by omega, show (31 : Int32) = iI 31 from rfl, e4, e10, obs, e3, obs]
          unfold fy_J13_copyOf
          rw [e6, obs, hc40, obs]
          unfold fy_J13_copyOf_2
          rw [hc40, obs, if_pos rfl, e5, obs]
          simp only
          rw [e7, obs, e8, i0, ecp]
          simp only [obs]
          rw [e11 (sE (nA y0 4 m.toNat) (yn y) _) tl]
          rfl
        · exact (((f0.na (k := 4) (n := m.toNat)).mono (c' := 1) (d' := 60) (by simp) (by omega) (by omega)).seN (Nat.le_refl _)).sr ol
        · show ye (sE _ _ _) (yn y) i = _
          rw [sE_get, if_pos rfl]
          unfold va_cpy
          rw [if_pos (by omega), eeq, show (0 : Int).toNat + (i - (0 : Int).toNat) = i by simp]
          exact b3 i hi
      · refine ⟨y0, q, cap, ?_, f0.mono (by simp) (by omega) (by omega), zt, by omega, z3, z4, by omega, by rw [er]; exact b1, by rw [ee]; exact b3⟩
        unfold fy_List_add_2
        rw [eL, obs, if_neg (by rw [iI_eq (by omega) (by omega) (by omega) (by omega)]; exact hf)]
  obtain ⟨y1, q1, cap1, c1, c2, c3, c4, c5, c6, c7, c8, c9⟩ := core (sF y l 0 (yf y l 0 + 1)) (yF.refl.sf o0) rfl rfl rfl rfl (by rw [sF_get, if_neg (by omega), a4])
  have t1 : yt y1 l = some (.inr 16) := by rw [c2.tag a3]; exact a1
  obtain ⟨cc, hv1, hv2⟩ := hv
  have hk : okE y1 4 (some v) = true := okE_o (by rw [c2.tag hvn]; exact hv1) hv2
  have hql : ¬ q1 = l := by intro e; rw [e, t1] at c3; cases c3
  have hn0 : 0 ≤ n := a5
  refine ⟨sF (sE y1 q1 (va_up (ye y1 q1) n.toNat (some v))) l 2 (iI (n + 1)), ?_, (c2.se (by rw [c6]; simp)).sf o2, ⟨t1, a2, by have := c2.nx; show l < yn y1; omega, by rw [sF_get, if_pos ⟨rfl, rfl⟩]⟩, by omega, q1, c8, c7, fun i hi => ?_, Or.inr ⟨cap1, c3, by omega, c5, c6⟩⟩
  · unfold fy_List_add
    rw [gI_ok a1, obs, wI_ok a1, obs, gR_ok (show yt (sF y l 0 (yf y l 0 + 1)) l = some (.inr 16) from a1) b1, obs, gI_ok (show yt (sF y l 0 (yf y l 0 + 1)) l = some (.inr 16) from a1), obs, ck_ok (show yt (sF y l 0 (yf y l 0 + 1)) l = some (.inr 16) from a1), obs]
    rw [sF_get, if_neg (by omega), a4, c1]
    unfold fy_List_add_2_j11
    rw [wE_n c3 hk hn0 (by omega) (by omega), obs, wI_ok (show yt (sE y1 q1 (va_up (ye y1 q1) n.toNat (some v))) l = some (.inr 16) from t1), obs, i1, iI_add]
    rfl
  · show ye (sE y1 q1 _) q1 i = _
    rw [sE_get, if_pos rfl]
    unfold va_up
    show _ = some (if i = n.toNat then v else els i)
    by_cases hi2 : i = n.toNat
    · rw [if_pos hi2, if_pos hi2]
    · rw [if_neg hi2, if_neg hi2]
      exact c9 i (by omega)
theorem l_remove {z : Int} (h : lsY G O y l lab n els) (h5 : ¬ lab = 5) (h1 : 0 ≤ z) (h2 : z < n) (hE : ∀ i : Nat, (i : Int) < n → ∃ cc, yt y (els i) = some (.inr cc) ∧ cc < ai_ncl) : ∃ y', fy_List_remove G y l (iI z) = some (els z.toNat, y') ∧ yF O [lab, 100 + lab] 0 0 y y' ∧ lsY G O y' l lab (n - 1) (fun i => if i < z.toNat then els i else els (i + 1)) := by
  obtain ⟨⟨a1, a2, a3, a4⟩, a5, q, b1, b2, b3, b4⟩ := h
  rcases b4 with ⟨z1, -, -⟩ | ⟨cap, z1, z2, z3, z4⟩
  · omega
  have o0 : [lab, 100 + lab].contains (lbF O l 0) = true := by rw [lbF_ne a2 h5]; simp
  have o2 : [lab, 100 + lab].contains (lbF O l 2) = true := by rw [lbF_ne a2 h5]; simp
  have oq : [lab, 100 + lab].contains (O q) = true := by rw [z4]; simp
  have hql : ¬ q = l := by intro e; rw [e, a1] at z1; cases z1
  have e1 : gI 16 2 y l = some (iI n) := by rw [gI_ok a1, a4]
  have e2 : gR 16 1 y l = some q := gR_ok a1 b1
  have e3 : aE G y q (iI z) = some (els z.toNat) := by rw [aE_n z1 (by omega) h1 (by omega) (by omega)]; exact b3 _ (by omega)
  have t0 : yt (sF y l 0 (yf y l 0 + 1)) l = some (.inr 16) := a1
  have e4 : gI 16 2 (sF y l 0 (yf y l 0 + 1)) l = some (iI n) := by rw [gI_ok t0, sF_get, if_neg (by omega), a4]
  -- the end
  have tail : ∀ u : yS, yF O [lab, 100 + lab] 0 0 y u → yt u = yt y → yr u = yr y → yn u = yn y → (∀ i : Nat, (i : Int) < n - 1 → ye u q i = some (if i < z.toNat then els i else els (i + 1))) → ∃ y', fy_List_fastRemove_j34 G u l q (iI (n - 1)) = some y' ∧ yF O [lab, 100 + lab] 0 0 y y' ∧ lsY G O y' l lab (n - 1) (fun i => if i < z.toNat then els i else els (i + 1)) := by
    intro u fu tu ru nu hu
    have tl : yt u l = some (.inr 16) := by rw [tu]; exact a1
    have tq : yt (sF u l 2 (iI (n - 1))) q = some (.inl (4, cap)) := by show yt u q = _; rw [tu]; exact z1
    refine ⟨sE (sF u l 2 (iI (n - 1))) q (va_up (ye (sF u l 2 (iI (n - 1))) q) (n - 1).toNat none), ?_, (fu.sf o2).se oq, ⟨tl, a2, by show l < yn u; omega, by show yf (sF u l 2 (iI (n - 1))) l 2 = _; rw [sF_get, if_pos ⟨rfl, rfl⟩]⟩, by omega, q, by show yr u l 1 = _; rw [ru]; exact b1, by show q < yn u; omega, fun i hi => ?_, Or.inr ⟨cap, tq, by omega, z3, z4⟩⟩
    · unfold fy_List_fastRemove_j34
      rw [wI_ok tl, obs, wE_n tq rfl (by omega) (by omega) (by omega)]
      rfl
    · rw [sE_get, if_pos rfl]
      unfold va_up
      rw [if_neg (by omega)]
      exact hu i hi
  have head : fy_List_remove G y l (iI z) = (fy_List_fastRemove G y l q (iI z)).bind fun p21 => some (els z.toNat, p21) := by
    unfold fy_List_remove fy_J5_checkIndex fy_J6_checkIndex
    rw [e1]
    simp (disch := omega) only [iI_lit, iI_add, iI_sub, iI_mul, iI_neg, obs, if_true, if_false, Int.reduceEq, Int.reduceLE, Int.reduceLT, Int.reduceAdd, Int.reduceSub, Int.reduceMul, Int.reduceNeg, Nat.reduceEqDiff, iI_le, iI_lt, iI_eq, e2, e3, ck_ok a1, if_neg (show ¬ z < 0 by omega), if_pos h2]
  rw [head]
  unfold fy_List_fastRemove
  rw [gI_ok a1, obs, wI_ok a1, obs, e4, obs, i1, iI_sub]
  simp (disch := omega) only [iI_le]
  by_cases hz : n - 1 ≤ z
  · rw [if_pos hz]
    obtain ⟨y', k1, k2, k3⟩ := tail (sF y l 0 (yf y l 0 + iI 1)) (yF.refl.sf o0) rfl rfl rfl (fun i hi => by rw [if_pos (by omega)]; exact b3 i (by omega))
    exact ⟨y', by rw [k1]; rfl, k2, k3⟩
  · rw [if_neg hz]
    have tq : yt (sF y l 0 (yf y l 0 + iI 1)) q = some (.inl (4, cap)) := z1
    have ecp := cpE_n (y := sF y l 0 (yf y l 0 + iI 1)) (b := q) (a := q) (sp := z + 1) (dp := z) (z := n - 1 - z) tq tq (by omega) (by omega) (by omega) (by omega) (by omega) (by omega) (by omega) (fun i hi => by
      obtain ⟨cc, k2, k3⟩ := hE ((z + 1).toNat + i) (by omega)
      rw [show ye (sF y l 0 (yf y l 0 + iI 1)) q = ye y q from rfl, b3 _ (by omega)]
      exact okE_o (cc := cc) k2 k3)
    obtain ⟨y', k1, k2, k3⟩ := tail (sE (sF y l 0 (yf y l 0 + iI 1)) q (va_cpy (ye (sF y l 0 (yf y l 0 + iI 1)) q) (ye (sF y l 0 (yf y l 0 + iI 1)) q) (z + 1).toNat z.toNat (n - 1 - z).toNat)) ((yF.refl.sf o0).se oq) rfl rfl rfl (fun i hi => by
      rw [sE_get, if_pos rfl]
      unfold va_cpy
      show (if z.toNat ≤ i ∧ i < z.toNat + (n - 1 - z).toNat then ye y q ((z + 1).toNat + (i - z.toNat)) else ye y q i) = _
      by_cases hiz : i < z.toNat
      · rw [if_neg (by omega), if_pos hiz]
        exact b3 i (by omega)
      · rw [if_pos (by omega), if_neg hiz, show (z + 1).toNat + (i - z.toNat) = i + 1 by omega]
        exact b3 (i + 1) (by omega))
    exact ⟨y', by rw [iI_add, iI_sub, ecp, obs, k1]; rfl, k2, k3⟩
end LS2

/-! LAYER 3, the river: the operation, both sides -/
set_option maxRecDepth 100000
/-- the river that was read -/
def rvL (ν : Lv) : Rv := (fun k => if k = 0 then vN ν 8 else if k = 1 then vN ν 9 else if k = 2 then vN ν 0 else if k = 3 then vN ν 1 else if k = 4 then vN ν 14 else if k = 5 then vN ν 13 else 0, fun k => if k = 0 then vV ν 0 else if k = 1 then vV ν 2 else if k = 2 then vV ν 3 else if k = 3 then vV ν 4 else if k = 4 then vV ν 5 else vV ν 6, vH ν)
def uFlt (μ : Mu) (a b c : Int) : Mu := (uR μ, uX μ, upN (upN (upN (uS μ) 1 a) 2 b) 3 c, uW μ, uB μ, uA μ)
def pFl : List Nat := [5, 4, 12, 13, 22, 1, 101, 3, 103, 23, 206, 213, 6, 10, 14, 8, 108, 9, 109, 26, 27, 127, 47, 25, 18, 118, 28, 128]
/-- labels once all is read -/
def labE (O O3 : Nat → Nat) : Nat → Nat := fun a => if O3 a = 50 ∨ O3 a = 57 then (if O a = 1 ∨ O a = 2 then 99 else O a) else if O3 a = 39 then 2 else if O3 a = 30 then 98 else 1
section O4
variable {G : ai_G} {O O' O3 : Nat → Nat} {L : List Nat} {c d : Nat} {y y1 : yS} {μ : Mu} {X r N0 R A F : Nat} {bd le : Nat → Nat} {K : Int → Nat} {sg : Nat → Nat} {s s1 : mS} {ν : Lv}
theorem XQ.ints {a b e : Int} (h : XQ G O y μ X r bd le K sg) (f : yF O L c d y y1) (hL : L.all (fun k => !(pFl.contains k)) = true) (e1 : yf y1 X 5 = iI a) (e2 : yf y1 X 7 = iI b) (e3 : yf y1 X 8 = iI e) : XQ G O y1 (uFlt μ a b e) X r bd le K sg := by
  obtain ⟨hS, hR, ⟨hN, hV⟩, hI, hT, hl, hW, hK, hB, hG⟩ := h
  exact ⟨hS.fr f (all_sub hL rfl), hR.fr f (off_all hL rfl) (off_all hL rfl), ⟨hN.fr f (off_all hL rfl), hV.fr hN f (off_all hL rfl) (off_all hL rfl) rfl⟩, ⟨e1, (x_f0 hS f 6 (off_all hL rfl)).trans hI.2.1, e2, e3, (x_f0 hS f 13 (off_all hL rfl)).trans hI.2.2.2.2⟩, hT.fr hS f (off_all hL rfl), hl.fr hS f (off_all hL rfl), hW.fr hS f (off_all hL rfl), hK.fr f (all_sub hL rfl), hB.fr hS f (all_sub hL rfl), hG.fr f (all_sub hL rfl)⟩
theorem kpY.yF (k : kpY N0 F c d y y1) (hn : yn y ≤ N0) (hF : O F = 7) : yF O [107] c d y y1 := by
  refine ⟨k.1, fun a ha => (k.2 a (by omega)).1, fun a ha _ => ?_, fun a j ha hl => ?_⟩
  · obtain ⟨q1, q2, q3, q4, q5, -⟩ := k.2 a (by omega)
    exact ⟨q2, q3, q4, q5⟩
  · obtain ⟨-, -, -, -, -, q⟩ := k.2 a (by omega)
    by_cases z : a = F
    · rw [z, lbF_ne hF (by decide)] at hl
      cases hl
    · rw [q z]
theorem MR_flt {a b e : Int} (h : MR μ s) (f : fr RK LJ s s1) (e1 : s1.1 1 = iI a) (e2 : s1.1 2 = iI b) (e3 : s1.1 3 = iI e) : MR (uFlt μ a b e) s1 := by
  obtain ⟨⟨o1, o2, o3, o4, o5, o6, o7, o8, o9, o10, o11, o12, o13, o14⟩, h2, ⟨a1, a2, a3, a4, a5, a6, a7, a8⟩, h4, h5, h6, h7, h8, h9⟩ := h
  refine ⟨⟨?_, ?_, ?_, ?_, ?_, ?_, f.ar o7 rfl, f.ar o8 rfl, f.ar o9 rfl, f.ar o10 rfl, f.ar o11 rfl, f.ar o12 rfl, ?_, fun k p hk => ?_⟩, f.ar h2 rfl, ⟨e1, e2, e3, ?_, ?_, ?_, ?_, ?_⟩, f.ar h4 rfl, f.ar h5 rfl, fun j hj => f.ar (h6 j hj) ?_, f.ar h7 rfl, fun k i k1 k2 i1 i2 => ?_, fun k i k1 k2 k3 i1 i2 => ?_⟩
  · rw [f.s 46 rfl]; exact o1
  · rw [f.s 47 rfl]; exact o2
  · rw [f.s 48 rfl]; exact o3
  · rw [f.s 49 rfl]; exact o4
  · rw [f.s 50 rfl]; exact o5
  · rw [f.s 21 rfl]; exact o6
  · rw [f.s 18 rfl]; exact o13
  · rw [f.a 5 rfl, f.a 6 rfl]; exact o14 k p hk
  · rw [f.s 57 rfl]; exact a4
  · rw [f.s 58 rfl]; exact a5
  · rw [f.s 61 rfl]; exact a6
  · rw [f.s 75 rfl]; exact a7
  · rw [f.s 76 rfl]; exact a8
  · have : ∀ j ∈ sgJ, LJ.contains j = false := by decide
    exact this j hj
  · rw [f.a 24 rfl]; exact h8 k i k1 k2 i1 i2
  · rw [f.a 44 rfl]; exact h9 k i k1 k2 k3 i1 i2
theorem rvL_wf (h : wfL ν) : wfR (rvL ν) := by
  obtain ⟨⟨w8, w9, w10, w11, w12, w13, w6, w7, w14, w15, w0, wl⟩, wz, wb, wL, wh, w16, w17⟩ := h
  refine ⟨w8, w9, w0, wl, w14, w13, fun z z1 z2 => (wz z z1 z2).1, fun z z1 z2 z3 => ?_, fun z z1 z2 => (wz z z1 z2).2.2.1, wb, wL, ?_, ?_⟩
  · obtain ⟨q1, q2, q3, q4, q5⟩ := wz z z1 z2
    exact q4 (q5 z3)
  · rcases wh with q | q
    · exact Or.inl q
    · exact Or.inr q.1
  · rcases wh with q | q
    · show (vH ν).length ≤ 320
      rw [q]; decide
    · exact q.2
theorem rvL_rd (hM : ML s ν) (h : wfL ν) (hs : s1 = mSi (mSi (mSi (mSi (mSi (mSi s 46 (iI (vN ν 8))) 47 (iI (vN ν 9))) 48 (iI (vN ν 0))) 49 (iI (vN ν 1))) 50 (iI (vN ν 14))) 21 (iI (vN ν 13))) : RD (rvL ν) (vN ν 15) s1 := by
  obtain ⟨⟨a1, a2, a3, a4, a5, a6, a7, a8, a9, a10, a11, a12, a13⟩, b, ⟨c1, c2, c3, c4⟩, ⟨d1, d2⟩, e⟩ := hM
  obtain ⟨-, wz, -⟩ := h
  subst hs
  refine ⟨⟨rfl, rfl, rfl, rfl, rfl, rfl, a8⟩, fun k p hk => ?_, fun z z1 z2 => ?_, fun z z1 z2 => ?_, c1, c2, c3, c4⟩
  · have hk' : (vH ν)[k]? = some p := hk
    have hne : ¬ vH ν = [] := by
      intro q
      rw [q] at hk'
      cases hk'
    exact (e hne).2 k p hk'
  · obtain ⟨q1, q2, q3, q4, q5⟩ := wz z z1 z2
    refine ⟨_, (b z z1 z2).1, ?_, ?_⟩
    · split <;> omega
    · show vV ν 0 z = _
      rcases q2 with q | q
      · rw [if_neg (show ¬ vV ν 1 z = 1 by omega), if_neg (show ¬ (0 : Int) ≤ -1 by decide)]
        exact q4 q
      · rw [if_pos q, if_pos q1.1]
  · obtain ⟨q1, q2, q3, q4, q5⟩ := wz z z1 z2
    refine ⟨_, (b z z1 z2).2, ?_, ?_⟩
    · split <;> omega
    · show vV ν 2 z = _
      rcases q3 with q | q
      · rw [if_neg (show ¬ vV ν 2 z = 1 by omega), if_neg (show ¬ (0 : Int) ≤ -1 by decide)]
        exact q
      · rw [if_pos q, if_pos (show (0 : Int) ≤ 1 by decide)]
        exact q
theorem lsY.lab {l la lb : Nat} {m : Int} {els : Nat → Nat} (h : lsY G O3 y l la m els) (e : ∀ a, O3 a = la → O' a = lb) : lsY G O' y l lb m els := by
  obtain ⟨⟨a1, a2, a3, a4⟩, a5, q, b1, b2, b3, b4⟩ := h
  refine ⟨⟨a1, e _ a2, a3, a4⟩, a5, q, b1, b2, b3, ?_⟩
  rcases b4 with z | ⟨cap, z1, z2, z3, z4⟩
  · exact Or.inl z
  · exact Or.inr ⟨cap, z1, z2, z3, e _ z4⟩
theorem trY.lab (e : ∀ a, O3 a = 1 → O' a = 1) : ∀ (n a : Nat) (l : List (Nat × Int32)), trY O3 y n a l → trY O' y n a l := by
  intro n
  induction n with
  | zero => intro a l h; exact h
  | succ n ih =>
    intro a l h
    obtain ⟨⟨b1, b2⟩, h⟩ := h
    refine ⟨⟨e a b1, b2⟩, ?_⟩
    rcases h with h | h | ⟨h, q, l1, g1, g2, g3⟩ | ⟨h, p, q, l1, l2, g1, g2, g3, g4, g5⟩
    · exact Or.inl h
    · exact Or.inr (Or.inl h)
    · exact Or.inr (Or.inr (Or.inl ⟨h, q, l1, g1, ih _ _ g2, g3⟩))
    · exact Or.inr (Or.inr (Or.inr ⟨h, p, q, l1, l2, g1, g2, ih _ _ g3, ih _ _ g4, g5⟩))
/-- what was read is a river -/
theorem CLr.riv (h : CLr G O3 r y ν bd le) (hO : labO O3 N0 R A F r) (hw : wfL ν) (e1 : ∀ a k, k ∈ [5, 34, 35, 36, 37, 38, 1] → O3 a = k → O' a = 1) (e2 : ∀ a, O3 a = 39 → O' a = 2) : rivY G O' y (rvL ν) r bd le := by
  obtain ⟨⟨a1, a2⟩, b, cc, dd, e, l1, l2, bs, ls, ht⟩ := h
  obtain ⟨-, o0, o1, o2, ⟨o3, o4, o5⟩, o6, -⟩ := hO
  obtain ⟨⟨w8, w9, w10, w11, w12, w13, w6, w7, w14, w15, w0, wl⟩, -⟩ := hw
  refine ⟨⟨a1, e1 _ 5 (by decide) o0, a2, fun i i1 i2 => ?_, e2 _ o6⟩, b, cc, ⟨dd 8 (by omega) (by omega), dd 9 (by omega) (by omega), dd 14 (by omega) (by omega), dd 13 (by omega) (by omega), vN ν 15, by omega, dd 15 (by omega) (by omega)⟩, fun z z1 z2 => ⟨(e z z1 z2).1, (e z z1 z2).2.2⟩, l1.lab (fun a => e1 a 34 (by decide)), l2.lab (fun a => e1 a 35 (by decide)), fun b b1 b2 => ?_, fun l k1 k2 => ?_, ?_⟩
  · have : i = 1 ∨ i = 2 ∨ i = 3 ∨ i = 4 ∨ i = 5 := by omega
    rcases this with q | q | q | q | q <;> subst q
    · exact e1 _ 34 (by decide) o1
    · exact e1 _ 35 (by decide) o2
    · exact e1 _ 38 (by decide) o3
    · exact e1 _ 38 (by decide) o4
    · exact e1 _ 38 (by decide) o5
  · obtain ⟨g1, g2, g3, g4, g5, g6, -⟩ := bs b b1 b2
    exact ⟨g1, e1 _ 36 (by decide) g2, g3, g4, g5, g6⟩
  · obtain ⟨g1, g2, g3, g4, -⟩ := ls l k1 k2
    exact ⟨g1, e1 _ 37 (by decide) g2, g3, g4⟩
  · rcases ht with ht | ⟨q, q1, q2⟩
    · exact Or.inl ht
    · exact Or.inr ⟨q, q1, trY.lab (fun a => e1 a 1 (by decide)) _ _ _ q2⟩
theorem shY.lab {a lab : Nat} (h : shY O y a lab) (e : ∀ q, q < yn y → O q = lab ∨ O q = lab + 20 → O' q = O q) : shY O' y a lab := by
  obtain ⟨h1, h2, h3, h4, h5⟩ := h
  exact ⟨h1, h2, (e a (by omega) (Or.inl h3)).trans h3, fun i i1 i2 => (e (a + i) (by omega) (Or.inr (h4 i i1 i2))).trans (h4 i i1 i2), h5⟩
theorem xS.lab (h : xS O y X r) (e : ∀ q, q < yn y → ¬ O q = 1 → ¬ O q = 2 → O' q = O q) : xS O' y X r := by
  obtain ⟨⟨a1, a2, a3⟩, b, c1, d1, e1, f1⟩ := h
  refine ⟨⟨a1, a2, a3⟩, fun k k1 k2 => ?_, c1, d1, e1.lab (fun q q1 q2 => e q q1 (by omega) (by omega)), f1⟩
  have hb : ∀ k, k < 42 → (k = 0 ∨ 8 ≤ k) → ¬ blk.getD k 0 = 1 ∧ ¬ blk.getD k 0 = 2 := by decide
  obtain ⟨n1, n2⟩ := hb k k1 k2
  have := b k k1 k2
  rw [e _ (by omega) (by rw [this]; exact n1) (by rw [this]; exact n2)]
  exact this
theorem xS.river (h : xS O y X r) (r' : Nat) : xS O (sR y X 0 (some r')) X r' := by
  obtain ⟨⟨a1, a2, a3⟩, b, c1, d1, e1, ⟨f1, f2, f3⟩, g1⟩ := h
  have f : yF O [5] 0 0 y (sR y X 0 (some r')) := yF.refl.sr (by rw [show O X = 5 from b 0 (by omega) (Or.inl rfl)]; rfl)
  refine ⟨⟨a1, a2, by rw [sR_get, if_pos ⟨rfl, rfl⟩]⟩, b, fun p hp => ?_, d1, e1.fr f rfl, ⟨?_, ?_, ?_⟩, g1⟩
  · have : ∀ p ∈ fldO, ¬ p.1 = 0 := by decide
    rw [sR_get, if_neg (fun z => this p hp z.2)]
    exact c1 p hp
  · rw [sR_get, if_neg (by omega)]; exact f1
  · rw [sR_get, if_neg (by omega)]; exact f2
  · rw [sR_get, if_neg (by omega)]; exact f3
end O4

/-! LAYER 3: the model's strokes -/
set_option maxRecDepth 100000
theorem sa_get {s : mS} {i j : Nat} {f : Nat → Int32} : (mSa s j f).2.2.1 i = if i = j then f else s.2.2.1 i := rfl
theorem sa_1 {s : mS} {j : Nat} {f : Nat → Int32} : (mSa s j f).1 = s.1 := rfl
theorem si_get {s : mS} {i k : Nat} {v : Int32} : (mSi s k v).1 i = if i = k then v else s.1 i := rfl
theorem si_a {s : mS} {k : Nat} {v : Int32} : (mSi s k v).2.2.1 = s.2.2.1 := rfl
section M3
variable {ρ : Rv} {s : mS} {x : Int → Int}
theorem m_fill (ha : ar s 22 28 x) : ∃ s', fm_fill s = some s' ∧ fr [] [23] s s' ∧ ar s' 23 28 x := by
  have : ∃ r, lp fm_fill_b2 (0, s) = some r ∧ (fr [] [23] s r ∧ ar r 23 28 x) := by
    refine lp_inv (fun i q => q.1 = iI i ∧ fr [] [23] s q.2 ∧ ar q.2 23 i x) 28 ?_ ?_ ⟨rfl, fr.refl, fun z h1 h2 => by omega⟩
    · rintro i ⟨k, u⟩ hi ⟨hk, hf, hr⟩
      simp only at hk hf hr
      have h1 := ha i (by omega) (by omega)
      have h2 : u.2.2.1 22 (i : Int).toNat = iI (x i) := by rw [hf.a 22 rfl]; exact h1
      left
      refine ⟨(iI (i + 1 : Nat), mSa u 23 (upd (u.2.2.1 23) (i : Int).toNat (iI (x i)))), ?_, rfl, hf.sa rfl, ?_⟩
      · simp (disch := omega) only [fm_fill_b2, hk, iI_lit, iI_add, iI_sub, iI_mul, iI_neg, Option.bind_some, if_true, if_false, Int.reduceEq, Int.reduceLE, Int.reduceLT, Int.reduceAdd, Int.reduceSub, Int.reduceMul, Int.reduceNeg, Nat.reduceEqDiff, iI_le, iI_lt, iI_eq, ld_i, sto_i, h2]
        rw [if_neg (by omega)]
        rfl
      · intro z hz1 hz2
        simp only [sa_get, if_true]
        rw [upd_i (by omega) hz1]
        split
        · rename_i e; rw [e]
        · exact hr z hz1 (by omega)
    · rintro ⟨k, u⟩ ⟨hk, hf, hr⟩
      simp only at hk hf hr
      refine ⟨u, ?_, hf, hr⟩
      simp (disch := omega) only [fm_fill_b2, hk, iI_lit, iI_add, iI_sub, iI_mul, iI_neg, Option.bind_some, if_true, if_false, Int.reduceEq, Int.reduceLE, Int.reduceLT, Int.reduceAdd, Int.reduceSub, Int.reduceMul, Int.reduceNeg, Nat.reduceEqDiff, iI_le, iI_lt, iI_eq]
      rfl
  obtain ⟨r, e, h1, h2⟩ := this
  exact ⟨r, by unfold fm_fill; rw [e]; rfl, h1, h2⟩
theorem m_keepAir (ha : ar s 23 28 x) : ∃ s', fm_keepAir s = some s' ∧ fr [] [22] s s' ∧ ar s' 22 28 x := by
  have : ∃ r, lp fm_keepAir_b2 (0, s) = some r ∧ (fr [] [22] s r ∧ ar r 22 28 x) := by
    refine lp_inv (fun i q => q.1 = iI i ∧ fr [] [22] s q.2 ∧ ar q.2 22 i x) 28 ?_ ?_ ⟨rfl, fr.refl, fun z h1 h2 => by omega⟩
    · rintro i ⟨k, u⟩ hi ⟨hk, hf, hr⟩
      simp only at hk hf hr
      have h1 := ha i (by omega) (by omega)
      have h2 : u.2.2.1 23 (i : Int).toNat = iI (x i) := by rw [hf.a 23 rfl]; exact h1
      left
      refine ⟨(iI (i + 1 : Nat), mSa u 22 (upd (u.2.2.1 22) (i : Int).toNat (iI (x i)))), ?_, rfl, hf.sa rfl, ?_⟩
      · simp (disch := omega) only [fm_keepAir_b2, hk, iI_lit, iI_add, iI_sub, iI_mul, iI_neg, Option.bind_some, if_true, if_false, Int.reduceEq, Int.reduceLE, Int.reduceLT, Int.reduceAdd, Int.reduceSub, Int.reduceMul, Int.reduceNeg, Nat.reduceEqDiff, iI_le, iI_lt, iI_eq, ld_i, sto_i, h2]
        rw [if_neg (by omega)]
        rfl
      · intro z hz1 hz2
        simp only [sa_get, if_true]
        rw [upd_i (by omega) hz1]
        split
        · rename_i e; rw [e]
        · exact hr z hz1 (by omega)
    · rintro ⟨k, u⟩ ⟨hk, hf, hr⟩
      simp only at hk hf hr
      refine ⟨u, ?_, hf, hr⟩
      simp (disch := omega) only [fm_keepAir_b2, hk, iI_lit, iI_add, iI_sub, iI_mul, iI_neg, Option.bind_some, if_true, if_false, Int.reduceEq, Int.reduceLE, Int.reduceLT, Int.reduceAdd, Int.reduceSub, Int.reduceMul, Int.reduceNeg, Nat.reduceEqDiff, iI_le, iI_lt, iI_eq]
      rfl
  obtain ⟨r, e, h1, h2⟩ := this
  exact ⟨r, by unfold fm_keepAir; rw [e]; rfl, h1, h2⟩
/-- the loads at a place, as a set -/
def atS (ρ : Rv) (x : Int → Int) (w : Int) : Int := setP (fun l => decide (x (20 + l) = w)) (rL ρ).toNat
theorem atS_b (hw : wfR ρ) (x : Int → Int) (w : Int) : 0 ≤ atS ρ x w ∧ atS ρ x w < 128 := by
  have h := setP_b (fun l => decide (x (20 + l) = w)) (rL ρ).toNat
  obtain ⟨-, -, -, hl, -⟩ := hw
  refine ⟨h.1, Int.lt_of_lt_of_le h.2 ?_⟩
  rw [pw_nat]
  have : 2 ^ (rL ρ).toNat ≤ 2 ^ 7 := Nat.pow_le_pow_right (by omega) (by omega)
  omega
theorem m_loadsAt (hR : okR ρ s) (hw : wfR ρ) (ha : ar s 23 28 x) (hx : wfS ρ x) {b : Int} (hb : -10 ≤ b) (hb2 : b ≤ 10) : fm_loadsAt s (iI b) = some (iI (atS ρ x b)) := by
  obtain ⟨-, -, -, hL, -⟩ := hR
  obtain ⟨-, -, hbb, hl, -⟩ := hw
  unfold fm_loadsAt
  have : lp (fm_loadsAt_b4 s (iI b)) (0, 0) = some (iI (atS ρ x b)) := by
    refine lp_seq (fun i => (iI (setP (fun l => decide (x (20 + l) = b)) i), iI i)) (rL ρ).toNat (fun i hi => ?_) ?_
    · have h1 := hx.2.1 i (by omega) (by omega)
      have h2 := ha (20 + i) (by omega) (by omega)
      have h3 := setP_b (fun l => decide (x (20 + l) = b)) i
      simp (disch := omega) only [fm_loadsAt_b4, fm_loadsAt_j31, m_truth, hL, iI_lit, iI_add, iI_sub, iI_mul, iI_neg, Option.bind_some, if_true, if_false, Int.reduceEq, Int.reduceLE, Int.reduceLT, Int.reduceAdd, Int.reduceSub, Int.reduceMul, Int.reduceNeg, Nat.reduceEqDiff, iI_le, iI_lt, iI_eq, ld_i, sto_i, h2, setP]
      rw [if_neg (by omega)]
      by_cases hc : x (20 + i) = b
      · rw [if_pos hc, or_i (by omega) (by omega) h3.1 h3.2, if_pos (by simpa using hc)]
        rfl
      · rw [if_neg hc, zero_shl, or_zero, if_neg (by simpa using hc), Int.add_zero]
        rfl
    · simp (disch := omega) only [fm_loadsAt_b4, hL, iI_lit, iI_add, iI_sub, iI_mul, iI_neg, Option.bind_some, if_true, if_false, Int.reduceEq, Int.reduceLE, Int.reduceLT, Int.reduceAdd, Int.reduceSub, Int.reduceMul, Int.reduceNeg, Nat.reduceEqDiff, iI_le, iI_lt, iI_eq, ld_i, sto_i]
      rw [if_pos (by omega)]
      rfl
  rw [this]
  rfl
theorem m_currentAt (hR : okR ρ s) {c r : Int} (h1 : 0 ≤ 8 * r + c) (h2 : 8 * r + c < 56) : fm_currentAt s (iI c) (iI r) = some (iI (rCu ρ (8 * r + c))) := by
  obtain ⟨-, -, -, -, -, -, hc, -⟩ := hR
  have := hc (8 * r + c) h1 h2
  simp (disch := omega) only [fm_currentAt, iI_lit, iI_add, iI_sub, iI_mul, iI_neg, Option.bind_some, if_true, if_false, Int.reduceEq, Int.reduceLE, Int.reduceLT, Int.reduceAdd, Int.reduceSub, Int.reduceMul, Int.reduceNeg, Nat.reduceEqDiff, ld_i, sto_i, this]
theorem m_isIron (hR : okR ρ s) (hw : wfR ρ) {c r : Int} (h1 : 0 ≤ 8 * r + c) (h2 : 8 * r + c < 56) : fm_isIron s (iI c) (iI r) = some (iI (rIr ρ (8 * r + c))) := by
  obtain ⟨-, -, -, -, -, -, -, hi, -⟩ := hR
  obtain ⟨-, -, -, -, -, -, -, -, hw, -⟩ := hw
  have h3 := hi (8 * r + c) h1 h2
  have h4 := hw (8 * r + c) h1 h2
  simp (disch := omega) only [fm_isIron, iI_lit, iI_add, iI_sub, iI_mul, iI_neg, Option.bind_some, if_true, if_false, Int.reduceEq, Int.reduceLE, Int.reduceLT, Int.reduceAdd, Int.reduceSub, Int.reduceMul, Int.reduceNeg, Nat.reduceEqDiff, iI_le, iI_lt, iI_eq, ld_i, sto_i, h3]
  split
  · rename_i e; rw [e]
  · rename_i e
    rw [show rIr ρ (8 * r + c) = 0 by omega]
def colBy (ρ : Rv) (c r steer k : Int) : Int := clampI (c + steer + k * rCu ρ (8 * r + c)) (rC ρ - 1)
theorem m_columnBy (hR : okR ρ s) (hw : wfR ρ) {c r t k : Int} (h1 : 0 ≤ c) (h2 : c < 8) (h3 : 0 ≤ r) (h4 : r ≤ 6) (h5 : -1 ≤ t) (h6 : t ≤ 1) (h7 : 0 ≤ k) (h8 : k ≤ 2) : fm_columnBy s (iI c) (iI r) (iI t) (iI k) = some (iI (colBy ρ c r t k)) := by
  have hw1 := hw
  obtain ⟨hc, -, -, -, -, -, hcu, -⟩ := hw
  have h9 := hcu (8 * r + c) (by omega) (by omega)
  have h10 : 0 ≤ k * rCu ρ (8 * r + c) := Int.mul_nonneg h7 h9.1
  have h11 : k * rCu ρ (8 * r + c) ≤ 2 * 7 := Int.mul_le_mul h8 h9.2 h9.1 (by omega)
  unfold fm_columnBy
  rw [m_currentAt hR (by omega) (by omega)]
  have hR1 := hR
  obtain ⟨hC, -⟩ := hR
  simp (disch := omega) only [iI_lit, iI_add, iI_sub, iI_mul, iI_neg, Option.bind_some, if_true, if_false, Int.reduceEq, Int.reduceLE, Int.reduceLT, Int.reduceAdd, Int.reduceSub, Int.reduceMul, Int.reduceNeg, Nat.reduceEqDiff, hC, m_within, colBy]
/-! the formula -/
def stepF (q : Nat → Int32) (t : List Int32) (p : Nat × Int32) : List Int32 := match p.1, t with
  | 0, t => p.2 :: t
  | 1, t => q p.2.toNatClampNeg :: t
  | 2, v :: t => (if v = 0 then 1 else 0) :: t
  | 3, y :: x :: t => doneF p.2 x y :: t
  | _, t => t
def evalF (l : List (Nat × Int32)) (q : Nat → Int32) : Int32 := match l.foldl (stepF q) [] with
  | v :: _ => v
  | [] => 1
def askI (ρ : Rv) (x : Int → Int) (b : Int) (k : Nat) : Int := match k with
  | 0 => x (4 + b)
  | 1 => x b
  | 2 => burd ρ x b
  | 3 => rBW ρ b
  | 4 => x (16 + b)
  | _ => x (8 + b)
def hot (ρ : Rv) (x : Int → Int) (b : Int) : Int := clampI (evalF (rS ρ) (fun k => iI (askI ρ x b k))).toInt 99
theorem hot_b (ρ : Rv) (x : Int → Int) (b : Int) : 0 ≤ hot ρ x b ∧ hot ρ x b ≤ 99 := by
  unfold hot clampI
  split
  · split <;> omega
  · omega
/-- the values hold this stack -/
def st8 (s : mS) (t : List Int32) : Prop := ∀ i v, t.reverse[i]? = some v → s.2.2.1 8 i = v
theorem st8_push {s : mS} {t : List Int32} (h : st8 s t) (v : Int32) : st8 (mSa s 8 (upd (s.2.2.1 8) t.length v)) (v :: t) := by
  intro i w hi
  simp only [sa_get, if_true, upd]
  rw [List.reverse_cons] at hi
  by_cases hl : i < t.length
  · rw [List.getElem?_append_left (by simpa using hl)] at hi
    rw [if_neg (by omega)]
    exact h i w hi
  · rw [List.getElem?_append_right (by simpa using hl)] at hi
    have : i = t.length := by
      have := List.getElem?_eq_some_iff.mp hi
      obtain ⟨h1, -⟩ := this
      simp at h1
      omega
    subst this
    simp at hi
    rw [if_pos rfl, hi]
theorem st8_top {s : mS} {t : List Int32} {v : Int32} (h : st8 s (v :: t)) : s.2.2.1 8 t.length = v ∧ st8 s t := by
  refine ⟨h t.length v ?_, fun i w hi => h i w ?_⟩
  · rw [List.reverse_cons, List.getElem?_append_right (by simp)]
    simp
  · rw [List.reverse_cons, List.getElem?_append_left]
    · exact hi
    · obtain ⟨h1, -⟩ := List.getElem?_eq_some_iff.mp hi
      exact h1
theorem okD_step {p : Nat × Int32} {l : List (Nat × Int32)} {q : Nat → Int32} {t : List Int32} (h : okD (p :: l) t.length = true) : okD l (stepF q t p).length = true ∧ (p.1 = 0 ∧ t.length < 64 ∨ p.1 = 1 ∧ t.length < 64 ∧ 0 ≤ p.2 ∧ p.2 < 6 ∨ (∃ v t', p.1 = 2 ∧ t = v :: t') ∨ (∃ a b t', p.1 = 3 ∧ t = b :: a :: t')) := by
  obtain ⟨k, a⟩ := p
  match k, t with
  | 0, t => simp only [okD, Bool.and_eq_true, decide_eq_true_eq] at h; exact ⟨h.2, Or.inl ⟨rfl, h.1⟩⟩
  | 1, t => simp only [okD, Bool.and_eq_true, decide_eq_true_eq] at h; exact ⟨h.2, Or.inr (Or.inl ⟨rfl, h.1.1.1, h.1.1.2, h.1.2⟩)⟩
  | 2, v :: t => simp only [okD, Bool.and_eq_true, decide_eq_true_eq] at h; exact ⟨h.2, Or.inr (Or.inr (Or.inl ⟨v, t, rfl, rfl⟩))⟩
  | 2, [] => simp [okD] at h
  | 3, b :: a :: t => simp only [okD, Bool.and_eq_true, decide_eq_true_eq] at h; exact ⟨h.2, Or.inr (Or.inr (Or.inr ⟨a, b, t, rfl, rfl⟩))⟩
  | 3, [] => simp [okD] at h
  | 3, [b] => simp [okD] at h
  | k + 4, t => simp [okD] at h
theorem m_hotLoop (q : Nat → Int32) {l : List (Nat × Int32)} {u : mS} (h18 : u.1 18 = iI l.length) (hl : l.length ≤ 320) (hs : ∀ k p, l[k]? = some p → u.2.2.1 5 k = iI p.1 ∧ u.2.2.1 6 k = p.2) (hq : ∀ k : Nat, k < 6 → u.2.2.1 9 k = q k) (h8 : l = [] → u.2.2.1 8 0 = 1) (hok : l = [] ∨ okD l 0 = true) : ∃ r, lp fm_hotterOf_b90 (iI 0, iI 0, u) = some r ∧ (fr [] [8] u r ∧ r.2.2.1 8 0 = evalF l q) := by
  refine lp_inv (fun k z => ∃ t, t = (l.take k).foldl (stepF q) [] ∧ z.1 = iI t.length ∧ z.2.1 = iI k ∧ fr [] [8] u z.2.2 ∧ st8 z.2.2 t ∧ (l = [] ∧ z.2.2 = u ∨ okD (l.drop k) t.length = true) ∧ t.length ≤ 64) l.length ?_ ?_ ⟨[], rfl, rfl, rfl, fr.refl, fun i v h => by simp at h, hok.elim (fun h => Or.inl ⟨h, rfl⟩) Or.inr, Nat.zero_le _⟩
  · rintro k ⟨n, k', v⟩ hk ⟨t, ht, hn, hk', hf, h8', hd, hst⟩
    simp only at hn hk' hf h8' hd hst
    subst hn hk'
    obtain ⟨p, hp⟩ : ∃ p, l[k]? = some p := ⟨l[k], by simp [hk]⟩
    have hdr : l.drop k = p :: l.drop (k + 1) := by
      have := List.getElem?_eq_some_iff.mp hp
      obtain ⟨h1, rfl⟩ := this
      exact List.drop_eq_getElem_cons h1
    have hd : okD (p :: l.drop (k + 1)) t.length = true := by
      rcases hd with ⟨h, -⟩ | h
      · subst h; simp at hk
      · rwa [hdr] at h
    have htk : (l.take (k + 1)).foldl (stepF q) [] = stepF q t p := by
      rw [List.take_add_one, hp, List.foldl_append, ← ht]
      rfl
    obtain ⟨hd1, hc⟩ := okD_step (q := q) hd
    obtain ⟨e5, e6⟩ := hs k p hp
    have e5' : v.2.2.1 5 k = iI p.1 := by rw [hf.a 5 rfl]; exact e5
    have e6' : v.2.2.1 6 k = p.2 := by rw [hf.a 6 rfl]; exact e6
    have e18 : v.1 18 = iI l.length := by rw [hf.s 18 rfl]; exact h18
    obtain ⟨p1, p2⟩ := p
    simp only at e5' e6' hd1 htk hc
    left
    rcases hc with ⟨h0, hlt⟩ | ⟨h0, hlt, ha1, ha2⟩ | ⟨w, t', h0, rfl⟩ | ⟨a, b, t', h0, rfl⟩
    · subst h0
      refine ⟨(iI ((t.length : Int) + 1), iI ((k : Int) + 1), mSa v 8 (upd (v.2.2.1 8) t.length p2)), ?_, p2 :: t, htk.symm, rfl, rfl, hf.sa rfl, st8_push h8' _, Or.inr hd1, by simp only [List.length_cons] at *; omega⟩
      simp (disch := omega) only [fm_hotterOf_b90, fm_hotterOf_j117, iI_lit, iI_add, iI_sub, iI_mul, iI_neg, Option.bind_some, if_true, if_false, Int.reduceEq, Int.reduceLE, Int.reduceLT, Int.reduceAdd, Int.reduceSub, Int.reduceMul, Int.reduceNeg, Nat.reduceEqDiff, iI_le, iI_lt, iI_eq, ld_i, sto_i, e18, e5', e6', Int.natCast_zero, Int.toNat_natCast]
      rw [if_neg (by omega)]
    · subst h0
      obtain ⟨m, hm, rfl⟩ : ∃ m : Nat, m < 6 ∧ p2 = iI m := by
        have hz : p2.toInt = p2.toNatClampNeg := Int32.toInt_eq_toNatClampNeg ha1
        have hz2 : p2.toInt < (6 : Int32).toInt := Int32.lt_iff_toInt_lt.mp ha2
        have hz3 : (6 : Int32).toInt = 6 := by decide
        exact ⟨p2.toNatClampNeg, by omega, by rw [← hz]; exact iI_of p2⟩
      have hcl : (iI (m : Int)).toNatClampNeg = m := by rw [iI_clamp (by omega) (by omega)]; rfl
      have e9 : v.2.2.1 9 m = q m := by rw [hf.a 9 rfl]; exact hq _ hm
      have es : stepF q t (1, iI m) = q m :: t := by simp only [stepF, hcl]
      rw [es] at hd1 htk
      refine ⟨(iI ((t.length : Int) + 1), iI ((k : Int) + 1), mSa v 8 (upd (v.2.2.1 8) t.length (q m))), ?_, q m :: t, htk.symm, rfl, rfl, hf.sa rfl, st8_push h8' _, Or.inr hd1, by simp only [List.length_cons] at *; omega⟩
      simp (disch := omega) only [fm_hotterOf_b90, fm_hotterOf_j117, iI_lit, iI_add, iI_sub, iI_mul, iI_neg, Option.bind_some, if_true, if_false, Int.reduceEq, Int.reduceLE, Int.reduceLT, Int.reduceAdd, Int.reduceSub, Int.reduceMul, Int.reduceNeg, Nat.reduceEqDiff, iI_le, iI_lt, iI_eq, ld_i, sto_i, e18, e5', e6', Int.natCast_one, Int.toNat_natCast, e9]
      rw [if_neg (by omega)]
    · subst h0
      obtain ⟨ht8, h8t⟩ := st8_top h8'
      have hlt : t'.length < 64 := hst
      refine ⟨(iI ((t'.length : Int) + 1), iI ((k : Int) + 1), mSa v 8 (upd (v.2.2.1 8) t'.length (if w = 0 then 1 else 0))), ?_, (if w = 0 then 1 else 0) :: t', htk.symm, rfl, rfl, hf.sa rfl, st8_push h8t _, Or.inr hd1, by simp only [List.length_cons] at *; omega⟩
      have hz : (((w :: t').length : Int)) = (t'.length : Int) + 1 := rfl
      have hz2 : (t'.length : Int) + 1 - 1 = t'.length := by omega
      simp (disch := omega) only [fm_hotterOf_b90, m_truth, hz, hz2, iI_lit, iI_add, iI_sub, iI_mul, iI_neg, Option.bind_some, if_true, if_false, Int.reduceEq, Int.reduceLE, Int.reduceLT, Int.reduceAdd, Int.reduceSub, Int.reduceMul, Int.reduceNeg, Nat.reduceEqDiff, iI_le, iI_lt, iI_eq, ld_i, sto_i, e18, e5', e6', ht8, Int.toNat_natCast, show ((2 : Nat) : Int) = 2 from rfl]
      rw [if_neg (by omega)]
      split <;> rfl
    · subst h0
      obtain ⟨hb8, h8b⟩ := st8_top h8'
      obtain ⟨ha8, h8a⟩ := st8_top h8b
      have hlt : t'.length + 1 < 64 := hst
      refine ⟨(iI ((t'.length : Int) + 1), iI ((k : Int) + 1), mSa v 8 (upd (v.2.2.1 8) t'.length (doneF p2 a b))), ?_, doneF p2 a b :: t', htk.symm, rfl, rfl, hf.sa rfl, st8_push h8a _, Or.inr hd1, by simp only [List.length_cons] at *; omega⟩
      have hz : (((b :: a :: t').length : Int)) = (t'.length : Int) + 2 := rfl
      have hz2 : (t'.length : Int) + 2 + -1 = t'.length + 1 := by omega
      have hz3 : (t'.length : Int) + 1 - 1 = t'.length := by omega
      have hz4 : ((t'.length : Int) + 1).toNat = t'.length + 1 := by omega
      have hb8 : v.2.2.1 8 (t'.length + 1) = b := hb8
      simp (disch := omega) only [fm_hotterOf_b90, m_done, hz, hz2, hz3, hz4, iI_lit, iI_add, iI_sub, iI_mul, iI_neg, Option.bind_some, if_true, if_false, Int.reduceEq, Int.reduceLE, Int.reduceLT, Int.reduceAdd, Int.reduceSub, Int.reduceMul, Int.reduceNeg, Nat.reduceEqDiff, iI_le, iI_lt, iI_eq, ld_i, sto_i, e18, e5', e6', ha8, hb8, Int.toNat_natCast, show ((3 : Nat) : Int) = 3 from rfl]
      rw [if_neg (by omega)]
  · rintro ⟨n, k', v⟩ ⟨t, ht, hn, hk', hf, h8', hd, hst⟩
    simp only at hn hk' hf h8' hd hst
    subst hn hk'
    have e18 : v.1 18 = iI l.length := by rw [hf.s 18 rfl]; exact h18
    refine ⟨v, ?_, hf, ?_⟩
    · simp (disch := omega) only [fm_hotterOf_b90, iI_lit, iI_add, iI_sub, iI_mul, iI_neg, Option.bind_some, if_true, if_false, Int.reduceEq, Int.reduceLE, Int.reduceLT, Int.reduceAdd, Int.reduceSub, Int.reduceMul, Int.reduceNeg, Nat.reduceEqDiff, iI_le, iI_lt, iI_eq, e18]
      rw [if_pos (by omega)]
    · rw [List.take_length] at ht
      rcases hd with ⟨h, h'⟩ | h
      · subst h
        rw [h', h8 rfl]
        rfl
      · rw [List.drop_length] at h
        simp only [okD, decide_eq_true_eq] at h
        match t, h with
        | [w], _ =>
          have := h8' 0 w rfl
          rw [this]
          unfold evalF
          rw [← ht]
end M3

/-! LAYER 2: rows of the interpreter: the heap, calls, ends -/
section OK2
variable {G : ai_G} {d k pc : Nat} {L : ai_L} {st : List Value} {h : ai_H} {Q : Option Value ⊕ Nat → ai_H → Prop}
theorem rd_new {a : Nat} {x : ai_C} (e : h.1 a = some x) : ai_rd G h a = some x := by unfold ai_rd; rw [e]
theorem k_getf {i a cI k9 : Nat} {f : Nat → Value} {v : Value} (hd : decode (ai_mC k) pc = .ok (.getfield i, 3)) (hr : h.1 a = some (.inr (cI, f))) (hf : ai_fT (ai_mO k) i cI = some k9) (hv : f k9 = v) (kk : ok G d k (pc + 3) L (v :: st) h Q) : ok G d k pc L (.ref a :: st) h Q :=
  ok_ex hd rfl (by subst hv; simp only [ai_ex, ai_getf, rd_new hr, hf]; rfl) kk
theorem k_getfO {i a cI k9 : Nat} {f : Nat → Value} {v : Value} (hd : decode (ai_mC k) pc = .ok (.getfield i, 3)) (hr : ai_rd G h a = some (.inr (cI, f))) (hf : ai_fT (ai_mO k) i cI = some k9) (hv : f k9 = v) (kk : ok G d k (pc + 3) L (v :: st) h Q) : ok G d k pc L (.ref a :: st) h Q :=
  ok_ex hd rfl (by subst hv; simp only [ai_ex, ai_getf, hr, hf]; rfl) kk
theorem k_putf {i a cI k9 : Nat} {f : Nat → Value} {v : Value} {h' : ai_H} (hd : decode (ai_mC k) pc = .ok (.putfield i, 3)) (hr : h.1 a = some (.inr (cI, f))) (hf : ai_fT (ai_mO k) i cI = some k9) (hv : ai_fit (ai_ty cI k9) v = true) (hn : (!(ai_fin cI k9) || (ai_mI k && decide ((ai_T cI k9).1 = ai_cn (ai_mO k)))) = true) (hh : ai_set h a (.inr (cI, va_up f k9 v)) = h') (kk : ok G d k (pc + 3) L st h' Q) : ok G d k pc L (v :: .ref a :: st) h Q :=
  ok_ex hd rfl (by subst hh; simp only [ai_ex, ai_putf, hr, hf, hv, hn, Bool.and_self, if_true]; rfl) kk
theorem k_iald {a n : Nat} {f : Nat → Int32} {i v : Int32} (hd : decode (ai_mC k) pc = .ok (.iaload, 1)) (hr : ai_rd G h a = some (.inl (0, n, .inl f))) (hi : ai_inb i n = true) (hv : f i.toNatClampNeg = v) (kk : ok G d k (pc + 1) L (.int v :: st) h Q) : ok G d k pc L (.int i :: .ref a :: st) h Q :=
  ok_ex hd rfl (by subst hv; simp only [ai_ex, ai_aldi, hr, hi, decide_true, Bool.and_self, if_true]; rfl) kk
theorem k_bald {a t n : Nat} {f : Nat → Int32} {i v : Int32} (hd : decode (ai_mC k) pc = .ok (.baload, 1)) (hr : ai_rd G h a = some (.inl (t, n, .inl f))) (ht : (decide (t = 1) || decide (t = 2)) = true) (hi : ai_inb i n = true) (hv : f i.toNatClampNeg = v) (kk : ok G d k (pc + 1) L (.int v :: st) h Q) : ok G d k pc L (.int i :: .ref a :: st) h Q :=
  ok_ex hd rfl (by subst hv; simp only [ai_ex, ai_aldi, hr, hi, ht, Bool.and_self, if_true]; rfl) kk
theorem k_lald {a n : Nat} {f : Nat → Int64} {i : Int32} {v : Int64} (hd : decode (ai_mC k) pc = .ok (.laload, 1)) (hr : ai_rd G h a = some (.inl (3, n, .inr (.inl f)))) (hi : ai_inb i n = true) (hv : f i.toNatClampNeg = v) (kk : ok G d k (pc + 1) L (.long v :: st) h Q) : ok G d k pc L (.int i :: .ref a :: st) h Q :=
  ok_ex hd rfl (by subst hv; simp only [ai_ex, ai_aldl, hr, hi, decide_true, Bool.and_self, if_true]; rfl) kk
theorem k_aald {a t n : Nat} {f : Nat → Option Nat} {i : Int32} {v : Value} (hd : decode (ai_mC k) pc = .ok (.aaload, 1)) (hr : ai_rd G h a = some (.inl (t, n, .inr (.inr (.inr (.inr f)))))) (ht : (decide (4 ≤ t) && decide (t < 7)) = true) (hi : ai_inb i n = true) (hv : va_rf (f i.toNatClampNeg) = v) (kk : ok G d k (pc + 1) L (v :: st) h Q) : ok G d k pc L (.int i :: .ref a :: st) h Q :=
  ok_ex hd rfl (by subst hv; simp only [ai_ex, ai_alda, hr, hi, ht, Bool.and_self, if_true]; rfl) kk
theorem k_iast {a n : Nat} {f : Nat → Int32} {i x : Int32} {h' : ai_H} (hd : decode (ai_mC k) pc = .ok (.iastore, 1)) (hr : h.1 a = some (.inl (0, n, .inl f))) (hi : ai_inb i n = true) (hh : ai_set h a (.inl (0, n, .inl (upd f i.toNatClampNeg x))) = h') (kk : ok G d k (pc + 1) L st h' Q) : ok G d k pc L (.int x :: .int i :: .ref a :: st) h Q :=
  ok_ex hd rfl (by subst hh; simp only [ai_ex, ai_asti, hr, hi, decide_true, Bool.and_self, if_true]; rfl) kk
theorem k_bast {a t n : Nat} {f : Nat → Int32} {i x : Int32} {h' : ai_H} (hd : decode (ai_mC k) pc = .ok (.bastore, 1)) (hr : h.1 a = some (.inl (t, n, .inl f))) (ht : (decide (t = 1) || decide (t = 2)) = true) (hi : ai_inb i n = true) (hh : ai_set h a (.inl (t, n, .inl (upd f i.toNatClampNeg (vp_nar (ai_ek t) x)))) = h') (kk : ok G d k (pc + 1) L st h' Q) : ok G d k pc L (.int x :: .int i :: .ref a :: st) h Q :=
  ok_ex hd rfl (by subst hh; simp only [ai_ex, ai_asti, hr, hi, ht, Bool.and_self, if_true]; rfl) kk
theorem k_last {a n : Nat} {f : Nat → Int64} {i : Int32} {x : Int64} {h' : ai_H} (hd : decode (ai_mC k) pc = .ok (.lastore, 1)) (hr : h.1 a = some (.inl (3, n, .inr (.inl f)))) (hi : ai_inb i n = true) (hh : ai_set h a (.inl (3, n, .inr (.inl (vp_updL f i.toNatClampNeg x)))) = h') (kk : ok G d k (pc + 1) L st h' Q) : ok G d k pc L (.long x :: .int i :: .ref a :: st) h Q :=
  ok_ex hd rfl (by subst hh; simp only [ai_ex, ai_astl, hr, hi, decide_true, Bool.and_self, if_true]; rfl) kk
theorem k_alen {a t n : Nat} {f} {v : Int32} (hd : decode (ai_mC k) pc = .ok (.arraylength, 1)) (hr : ai_rd G h a = some (.inl (t, n, f))) (ht : t < 7) (hv : Int32.ofNat n = v) (kk : ok G d k (pc + 1) L (.int v :: st) h Q) : ok G d k pc L (.ref a :: st) h Q :=
  ok_ex hd rfl (by subst hv; simp only [ai_ex, ai_alen, hr, ht, if_true]; rfl) kk
theorem k_ireturn {v : Int32} (hd : decode (ai_mC k) pc = .ok (.ireturn, 1)) (hr : ai_rok (ai_mR k) (.int v) = true) (hq : Q (.inl (some (.int v))) h) : ok G d k pc L [.int v] h Q :=
  ok_end hd rfl (by simp only [ai_ex, hr, if_true]; rfl) hq
theorem k_lreturn {v : Int64} (hd : decode (ai_mC k) pc = .ok (.lreturn, 1)) (hr : ai_mR k = some .long) (hq : Q (.inl (some (.long v))) h) : ok G d k pc L [.long v] h Q :=
  ok_end hd rfl (by simp only [ai_ex, hr, if_true]; rfl) hq
theorem k_areturn {v : Value} (hd : decode (ai_mC k) pc = .ok (.areturn, 1)) (hr : ai_rok (ai_mR k) v = true) (hv : v.isRef = true) (hq : Q (.inl (some v)) h) : ok G d k pc L [v] h Q :=
  ok_end hd rfl (by simp only [ai_ex, hr, hv, and_self, if_true]; rfl) hq
theorem k_return (hd : decode (ai_mC k) pc = .ok (.return_, 1)) (hr : ai_mR k = none) (hq : Q (.inl none) h) : ok G d k pc L [] h Q :=
  ok_end hd rfl (by simp only [ai_ex, hr, if_true]; rfl) hq
theorem ok_call {i : Instr} {len id pc' : Nat} {as rest : List Value} {v : Option Value} {h1 : ai_H} (hd : decode (ai_mC k) pc = .ok (i, len)) (hl : ai_lok i len = true) (e : ai_ex G k i pc L st h = some (.inr (.inl (id, as, pc', rest)))) (hc : ai_call G d id as h = some (.inl v, h1)) (kk : ok G d k pc' L (v.toList ++ rest) h1 Q) : ok G d k pc L st h Q := by
  obtain ⟨r, h2, e1, e2⟩ := kk
  refine ⟨r, h2, (ai_run_call ?_ hc).trans e1, e2⟩
  unfold ai_step
  rw [hd]
  simp only [hl, if_true]
  exact e
theorem k_inv {o i kd n9 n cI id : Nat} {as rest : List Value} (hn : ai_aN o i = some n) (hl : as.length = n) (hw : ai_wt rest ≤ 8) (hc : (if kd = 0 then some 0 else (as.head?).bind (if kd = 1 then ai_rc1 else ai_rc G h)) = some cI) (hT : ai_cT kd o i cI = some id) : ai_inv G o i kd n9 pc L (as.reverse ++ rest) h = some (.inr (.inl (id, as, pc + n9, rest))) := by
  have h1 : ((as.reverse ++ rest).take n).reverse = as := by
    rw [List.take_append_of_le_length (by simp [hl]), ← hl, ← List.length_reverse, List.take_length, List.reverse_reverse]
  have h2 : (as.reverse ++ rest).drop n = rest := by
    rw [← hl, ← List.length_reverse, List.drop_left]
  unfold ai_inv
  rw [hn]
  simp only [h1, h2, hc, hT]
  rw [if_neg]
  rintro (z | z)
  · simp at z; omega
  · omega
theorem k_callV {i a cI id n : Nat} {f : Nat → Value} {v : Option Value} {h1 : ai_H} (hd : decode (ai_mC k) pc = .ok (.invokevirtual i, 3)) (tl rest : List Value) (hst : (Value.ref a :: tl).reverse ++ rest = st) (hr : ai_rd G h a = some (.inr (cI, f))) (hg : ai_gcI (ai_mO k) i = false) (hn : ai_aN (ai_mO k) i = some n) (hl : tl.length + 1 = n) (hw : ai_wt rest ≤ 8) (hT : ai_cT 2 (ai_mO k) i cI = some id) (hc : ai_call G d id (.ref a :: tl) h = some (.inl v, h1)) (kk : ok G d k (pc + 3) L (v.toList ++ rest) h1 Q) : ok G d k pc L st h Q := by
  subst hst
  refine ok_call hd rfl ?_ hc kk
  simp only [ai_ex, ai_virt, hg, Bool.false_eq_true, if_false]
  exact k_inv hn hl hw (by simp [ai_rc, hr]) hT
theorem k_callS {i id n : Nat} {v : Option Value} {h1 : ai_H} (hd : decode (ai_mC k) pc = .ok (.invokestatic i, 3)) (as rest : List Value) (hst : as.reverse ++ rest = st) (hg : (ai_cpI (ai_mO k) i || ai_mxI (ai_mO k) i || ai_mnI (ai_mO k) i || ai_abI (ai_mO k) i) = false) (hn : ai_aN (ai_mO k) i = some n) (hl : as.length = n) (hw : ai_wt rest ≤ 8) (hT : ai_cT 0 (ai_mO k) i 0 = some id) (hc : ai_call G d id as h = some (.inl v, h1)) (kk : ok G d k (pc + 3) L (v.toList ++ rest) h1 Q) : ok G d k pc L st h Q := by
  subst hst
  refine ok_call hd rfl ?_ hc kk
  simp only [Bool.or_eq_false_iff] at hg
  obtain ⟨⟨⟨g1, g2⟩, g3⟩, g4⟩ := hg
  simp only [ai_ex, ai_stat, g1, g2, g3, g4, Bool.false_eq_true, if_false]
  exact k_inv hn hl hw (by simp) hT
theorem ok.call {args : List Value} {r : Option Value ⊕ Nat} {h' : ai_H} (hl : (ai_sl args).length ≤ ai_mL k) (kk : ok G d k 0 (ai_en k args) [] h (fun r' h1 => r' = r ∧ h1 = h')) : ai_call G (d + 1) k args h = some (r, h') := by
  obtain ⟨r1, h1, e, rfl, rfl⟩ := kk
  rw [ai_call_run G d k args h hl]
  exact e
end OK2

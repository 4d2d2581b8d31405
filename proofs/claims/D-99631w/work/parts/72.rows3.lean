/-! LAYER 2: rows of the interpreter: constants, new objects and arrays, casts, copies, constructors, switches, exceptions -/
section OK3
variable {G : ai_G} {d k pc : Nat} {L : ai_L} {st : List Value} {h : ai_H} {Q : Option Value ⊕ Nat → ai_H → Prop}
theorem k_ldc {i : Nat} {v : Value} (hd : decode (ai_mC k) pc = .ok (.ldc i, 2)) (hv : ai_lT G (ai_mO k) i = some v) (kk : ok G d k (pc + 2) L (v :: st) h Q) : ok G d k pc L st h Q :=
  ok_ex hd rfl (by simp only [ai_ex, hv, ai_pushv]; rfl) kk
theorem k_ldc_w {i : Nat} {v : Value} (hd : decode (ai_mC k) pc = .ok (.ldc_w i, 3)) (hm : ai_mrI (ai_mO k) i = false) (hv : ai_lT G (ai_mO k) i = some v) (kk : ok G d k (pc + 3) L (v :: st) h Q) : ok G d k pc L st h Q :=
  ok_ex hd rfl (by simp only [ai_ex, hv, hm, Bool.false_eq_true, if_false, ai_pushv]; rfl) kk
theorem k_ldc2 {i : Nat} {v : Value} (hd : decode (ai_mC k) pc = .ok (.ldc2_w i, 3)) (hv : ai_l2T (ai_mO k) i = some v) (kk : ok G d k (pc + 3) L (v :: st) h Q) : ok G d k pc L st h Q :=
  ok_ex hd rfl (by simp only [ai_ex, hv, ai_pushv]; rfl) kk
theorem k_gets {i : Nat} {v : Value} (hd : decode (ai_mC k) pc = .ok (.getstatic i, 3)) (hv : ai_gT G (ai_mO k) i = some v) (kk : ok G d k (pc + 3) L (v :: st) h Q) : ok G d k pc L st h Q :=
  ok_ex hd rfl (by simp only [ai_ex, hv, ai_pushv]; rfl) kk
theorem k_new {i c a : Nat} {h' : ai_H} (hd : decode (ai_mC k) pc = .ok (.new i, 3)) (hc : ai_nT (ai_mO k) i = some c) (ha : h.2.1 = a) (hh : ai_push h (.inr (c, fun k => defaultValue (ai_ty c k))) (ai_nf c) = h') (kk : ok G d k (pc + 3) L (.ref a :: st) h' Q) : ok G d k pc L st h Q :=
  ok_ex hd rfl (by subst ha; subst hh; simp only [ai_ex, ai_new, hc]; rfl) kk
theorem k_newI {n : Int32} {a : Nat} {h' : ai_H} (hd : decode (ai_mC k) pc = .ok (.newarray .int, 2)) (hn : ¬ (n < 0 ∨ 65536 < n.toNatClampNeg)) (ha : h.2.1 = a) (hh : ai_push h (.inl (0, n.toNatClampNeg, .inl (fun _ => 0))) n.toNatClampNeg = h') (kk : ok G d k (pc + 2) L (.ref a :: st) h' Q) : ok G d k pc L (.int n :: st) h Q :=
  ok_ex hd rfl (by subst ha; subst hh; simp only [ai_ex, ai_newa, if_neg hn]; rfl) kk
theorem k_newZ {n : Int32} {a : Nat} {h' : ai_H} (hd : decode (ai_mC k) pc = .ok (.newarray .boolean, 2)) (hn : ¬ (n < 0 ∨ 65536 < n.toNatClampNeg)) (ha : h.2.1 = a) (hh : ai_push h (.inl (1, n.toNatClampNeg, .inl (fun _ => 0))) n.toNatClampNeg = h') (kk : ok G d k (pc + 2) L (.ref a :: st) h' Q) : ok G d k pc L (.int n :: st) h Q :=
  ok_ex hd rfl (by subst ha; subst hh; simp only [ai_ex, ai_newa, if_neg hn]; rfl) kk
theorem k_newB {n : Int32} {a : Nat} {h' : ai_H} (hd : decode (ai_mC k) pc = .ok (.newarray .byte, 2)) (hn : ¬ (n < 0 ∨ 65536 < n.toNatClampNeg)) (ha : h.2.1 = a) (hh : ai_push h (.inl (2, n.toNatClampNeg, .inl (fun _ => 0))) n.toNatClampNeg = h') (kk : ok G d k (pc + 2) L (.ref a :: st) h' Q) : ok G d k pc L (.int n :: st) h Q :=
  ok_ex hd rfl (by subst ha; subst hh; simp only [ai_ex, ai_newa, if_neg hn]; rfl) kk
theorem k_newJ {n : Int32} {a : Nat} {h' : ai_H} (hd : decode (ai_mC k) pc = .ok (.newarray .long, 2)) (hn : ¬ (n < 0 ∨ 65536 < n.toNatClampNeg)) (ha : h.2.1 = a) (hh : ai_push h (.inl (3, n.toNatClampNeg, .inr (.inl (fun _ => 0)))) n.toNatClampNeg = h') (kk : ok G d k (pc + 2) L (.ref a :: st) h' Q) : ok G d k pc L (.int n :: st) h Q :=
  ok_ex hd rfl (by subst ha; subst hh; simp only [ai_ex, ai_newa, if_neg hn]; rfl) kk
theorem k_anew {n : Int32} {i t a : Nat} {h' : ai_H} (hd : decode (ai_mC k) pc = .ok (.anewarray i, 3)) (hc : ai_aT (ai_mO k) i = some t) (hn : ¬ (n < 0 ∨ 65536 < n.toNatClampNeg)) (ha : h.2.1 = a) (hh : ai_push h (.inl (t, n.toNatClampNeg, .inr (.inr (.inr (.inr (fun _ => none)))))) n.toNatClampNeg = h') (kk : ok G d k (pc + 3) L (.ref a :: st) h' Q) : ok G d k pc L (.int n :: st) h Q :=
  ok_ex hd rfl (by subst ha; subst hh; simp only [ai_ex, ai_anew, hc, if_neg hn]; rfl) kk
theorem k_cast {i a c : Nat} {f : Nat → Value} (hd : decode (ai_mC k) pc = .ok (.checkcast i, 3)) (hr : h.1 a = some (.inr (c, f))) (hk : ai_kT (ai_mO k) i c = true) (kk : ok G d k (pc + 3) L (.ref a :: st) h Q) : ok G d k pc L (.ref a :: st) h Q :=
  ok_ex hd rfl (by simp only [ai_ex, ai_cast, hr, hk, if_true]; rfl) kk
theorem k_aastN {a t n : Nat} {f : Nat → Option Nat} {i : Int32} {h' : ai_H} (hd : decode (ai_mC k) pc = .ok (.aastore, 1)) (hr : h.1 a = some (.inl (t, n, .inr (.inr (.inr (.inr f)))))) (ht : (decide (t = 4) || decide (t = 5)) = true) (hi : ai_inb i n = true) (hh : ai_set h a (.inl (t, n, .inr (.inr (.inr (.inr (va_up f i.toNatClampNeg none)))))) = h') (kk : ok G d k (pc + 1) L st h' Q) : ok G d k pc L (.null :: .int i :: .ref a :: st) h Q :=
  ok_ex hd rfl (by subst hh; simp only [ai_ex, ai_asta, hr, ht, hi, Bool.and_self, if_true]; rfl) kk
theorem k_aast {a t n y : Nat} {f : Nat → Option Nat} {i : Int32} {h' : ai_H} (hd : decode (ai_mC k) pc = .ok (.aastore, 1)) (hr : h.1 a = some (.inl (t, n, .inr (.inr (.inr (.inr f)))))) (ht : ai_elok h t y = true) (hi : ai_inb i n = true) (hh : ai_set h a (.inl (t, n, .inr (.inr (.inr (.inr (va_up f i.toNatClampNeg (some y))))))) = h') (kk : ok G d k (pc + 1) L st h' Q) : ok G d k pc L (.ref y :: .int i :: .ref a :: st) h Q :=
  ok_ex hd rfl (by subst hh; simp only [ai_ex, ai_asta, hr, ht, hi, Bool.and_self, if_true]; rfl) kk
theorem k_acmp_eq {x y t : Nat} {off : Int} (hd : decode (ai_mC k) pc = .ok (.if_acmp .eq off, 3)) (ht : ai_jp pc off = some t) (kt : x = y → ok G d k t L st h Q) (kf : ¬ x = y → ok G d k (pc + 3) L st h Q) : ok G d k pc L (.ref y :: .ref x :: st) h Q := by
  by_cases hc : x = y
  · exact ok_ex hd rfl (by simp only [ai_ex, ai_acmp, ai_go1, ht, Option.bind_some, decide_eq_true hc, if_true]; rfl) (kt hc)
  · exact ok_ex hd rfl (by simp only [ai_ex, ai_acmp, ai_go1, ht, Option.bind_some, decide_eq_false hc, Bool.false_eq_true, if_false]; rfl) (kf hc)
theorem k_acmp_ne {x y t : Nat} {off : Int} (hd : decode (ai_mC k) pc = .ok (.if_acmp .ne off, 3)) (ht : ai_jp pc off = some t) (kt : ¬ x = y → ok G d k t L st h Q) (kf : x = y → ok G d k (pc + 3) L st h Q) : ok G d k pc L (.ref y :: .ref x :: st) h Q := by
  by_cases hc : ¬ x = y
  · exact ok_ex hd rfl (by simp only [ai_ex, ai_acmp, ai_go1, ht, Option.bind_some, decide_eq_true hc, if_true]; rfl) (kt hc)
  · exact ok_ex hd rfl (by simp only [ai_ex, ai_acmp, ai_go1, ht, Option.bind_some, decide_eq_false hc, Bool.false_eq_true, if_false]; rfl) (kf (Decidable.of_not_not hc))
theorem k_ifnullR {x t : Nat} {off : Int} (hd : decode (ai_mC k) pc = .ok (.ifnull off, 3)) (ht : ai_jp pc off = some t) (kk : ok G d k (pc + 3) L st h Q) : ok G d k pc L (.ref x :: st) h Q :=
  ok_ex hd rfl (by simp only [ai_ex, ai_nul, ai_go1, ht, Option.bind_some]; rfl) kk
theorem k_ifnullN {t : Nat} {off : Int} (hd : decode (ai_mC k) pc = .ok (.ifnull off, 3)) (ht : ai_jp pc off = some t) (kk : ok G d k t L st h Q) : ok G d k pc L (.null :: st) h Q :=
  ok_ex hd rfl (by simp only [ai_ex, ai_nul, ai_go1, ht, Option.bind_some]; rfl) kk
theorem k_ifnonnullR {x t : Nat} {off : Int} (hd : decode (ai_mC k) pc = .ok (.ifnonnull off, 3)) (ht : ai_jp pc off = some t) (kk : ok G d k t L st h Q) : ok G d k pc L (.ref x :: st) h Q :=
  ok_ex hd rfl (by simp only [ai_ex, ai_nul, ai_go1, ht, Option.bind_some]; rfl) kk
theorem k_ifnonnullN {t : Nat} {off : Int} (hd : decode (ai_mC k) pc = .ok (.ifnonnull off, 3)) (ht : ai_jp pc off = some t) (kk : ok G d k (pc + 3) L st h Q) : ok G d k pc L (.null :: st) h Q :=
  ok_ex hd rfl (by simp only [ai_ex, ai_nul, ai_go1, ht, Option.bind_some]; rfl) kk
theorem k_tsw {dft lo hi off : Int} {offs : Array Int} {x : Int32} {t len : Nat} (hd : decode (ai_mC k) pc = .ok (.tableswitch dft lo hi offs, len)) (hx : ai_tsw dft lo hi offs x.toInt = some off) (ht : ai_jp pc off = some t) (kk : ok G d k t L st h Q) : ok G d k pc L (.int x :: st) h Q :=
  ok_ex hd rfl (by simp only [ai_ex, hx, ht, Option.bind_some]; rfl) kk
theorem k_lsw {dft : Int} {ps : Array (Int × Int)} {x : Int32} {t len : Nat} (hd : decode (ai_mC k) pc = .ok (.lookupswitch dft ps, len)) (hs : (ps.toList.zip (ps.toList.drop 1)).all (fun (a, next) => a.1 < next.1) = true) (ht : ai_jp pc (Op.lookupswitch.offset ps.toList dft x.toInt) = some t) (kk : ok G d k t L st h Q) : ok G d k pc L (.int x :: st) h Q :=
  ok_ex hd rfl (by simp only [ai_ex, hs, if_true, ht, Option.bind_some]; rfl) kk
theorem k_copyi {t n0 n1 a b : Nat} {f g : Nat → Int32} {sp dp n : Int32} {i : Nat} {h' : ai_H} (hd : decode (ai_mC k) pc = .ok (.invokestatic i, 3)) (hI : ai_cpI (ai_mO k) i = true) (h0 : ¬ (sp < 0 ∨ dp < 0 ∨ n < 0 ∨ 8 < ai_wt st)) (hb : h.1 b = some (.inl (t, n0, .inl f))) (ha : h.1 a = some (.inl (t, n1, .inl g))) (ht : t < 2) (h1 : sp.toNatClampNeg + n.toNatClampNeg ≤ n0) (h2 : dp.toNatClampNeg + n.toNatClampNeg ≤ n1) (hf : (List.range n.toNatClampNeg).all (fun i => ai_fit (ai_ek t) (.int (f (sp.toNatClampNeg + i)))) = true) (hh : ai_set h a (.inl (t, n1, .inl (va_cpy f g sp.toNatClampNeg dp.toNatClampNeg n.toNatClampNeg))) = h') (kk : ok G d k (pc + 3) L st h' Q) : ok G d k pc L (.int n :: .int dp :: .ref a :: .int sp :: .ref b :: st) h Q :=
  ok_ex hd rfl (by subst hh; simp only [ai_ex, ai_stat, hI, if_true, ai_copy, if_neg h0, hb, ha, ht, h1, h2, hf, decide_true, Bool.and_self]; rfl) kk
theorem k_copya {n0 n1 a b : Nat} {f g : Nat → Option Nat} {sp dp n : Int32} {i : Nat} {h' : ai_H} (hd : decode (ai_mC k) pc = .ok (.invokestatic i, 3)) (hI : ai_cpI (ai_mO k) i = true) (h0 : ¬ (sp < 0 ∨ dp < 0 ∨ n < 0 ∨ 8 < ai_wt st)) (hb : h.1 b = some (.inl (4, n0, .inr (.inr (.inr (.inr f)))))) (ha : h.1 a = some (.inl (4, n1, .inr (.inr (.inr (.inr g)))))) (h1 : sp.toNatClampNeg + n.toNatClampNeg ≤ n0) (h2 : dp.toNatClampNeg + n.toNatClampNeg ≤ n1) (hf : ai_cpok h 4 f sp.toNatClampNeg n.toNatClampNeg = true) (hh : ai_set h a (.inl (4, n1, .inr (.inr (.inr (.inr (va_cpy f g sp.toNatClampNeg dp.toNatClampNeg n.toNatClampNeg)))))) = h') (kk : ok G d k (pc + 3) L st h' Q) : ok G d k pc L (.int n :: .int dp :: .ref a :: .int sp :: .ref b :: st) h Q :=
  ok_ex hd rfl (by subst hh; simp only [ai_ex, ai_stat, hI, if_true, ai_copy, if_neg h0, hb, ha, h1, h2, hf, decide_true, Bool.and_self]; rfl) kk
theorem k_max {i : Nat} {x y : Int32} (hd : decode (ai_mC k) pc = .ok (.invokestatic i, 3)) (hc : ai_cpI (ai_mO k) i = false) (hI : ai_mxI (ai_mO k) i = true) (hw : ai_wt st ≤ 8) (kk : ok G d k (pc + 3) L (.int (if x < y then y else x) :: st) h Q) : ok G d k pc L (.int y :: .int x :: st) h Q :=
  ok_ex hd rfl (by simp only [ai_ex, ai_stat, hc, hI, if_true, Bool.false_eq_true, if_false, if_neg (Nat.not_lt.mpr hw)]; rfl) kk
theorem k_min {i : Nat} {x y : Int32} (hd : decode (ai_mC k) pc = .ok (.invokestatic i, 3)) (hc : ai_cpI (ai_mO k) i = false) (hx : ai_mxI (ai_mO k) i = false) (hI : ai_mnI (ai_mO k) i = true) (hw : ai_wt st ≤ 8) (kk : ok G d k (pc + 3) L (.int (if y < x then y else x) :: st) h Q) : ok G d k pc L (.int y :: .int x :: st) h Q :=
  ok_ex hd rfl (by simp only [ai_ex, ai_stat, hc, hx, hI, if_true, Bool.false_eq_true, if_false, if_neg (Nat.not_lt.mpr hw)]; rfl) kk
theorem k_abs {i : Nat} {x : Int32} (hd : decode (ai_mC k) pc = .ok (.invokestatic i, 3)) (hc : ai_cpI (ai_mO k) i = false) (hx : ai_mxI (ai_mO k) i = false) (hn : ai_mnI (ai_mO k) i = false) (hI : ai_abI (ai_mO k) i = true) (hw : ai_wt st ≤ 8) (kk : ok G d k (pc + 3) L (.int (if 0 ≤ x then x else 0 - x) :: st) h Q) : ok G d k pc L (.int x :: st) h Q :=
  ok_ex hd rfl (by simp only [ai_ex, ai_stat, hc, hx, hn, hI, if_true, Bool.false_eq_true, if_false, if_neg (Nat.not_lt.mpr hw)]; rfl) kk
theorem k_getClass {i a n : Nat} {x} (hd : decode (ai_mC k) pc = .ok (.invokevirtual i, 3)) (hI : ai_gcI (ai_mO k) i = true) (hr : h.1 a = some (.inl (4, n, x))) (hw : ai_wt st ≤ 8) (kk : ok G d k (pc + 3) L (G.1 ai_kMirror :: st) h Q) : ok G d k pc L (.ref a :: st) h Q :=
  ok_ex hd rfl (by simp only [ai_ex, ai_virt, hI, if_true, hr, if_neg (Nat.not_lt.mpr hw)]; rfl) kk
theorem k_objI {i a : Nat} (hd : decode (ai_mC k) pc = .ok (.invokespecial i, 3)) (hI : ai_oI (ai_mO k) i = true) (hw : ai_wt st ≤ 8) (kk : ok G d k (pc + 3) L st h Q) : ok G d k pc L (.ref a :: st) h Q :=
  ok_ex hd rfl (by simp only [ai_ex, ai_spec, hI, if_true, if_neg (Nat.not_lt.mpr hw)]; rfl) kk
theorem k_wrongI {i a : Nat} {f : Nat → Value} (hd : decode (ai_mC k) pc = .ok (.invokespecial i, 3)) (ho : ai_oI (ai_mO k) i = false) (hI : ai_wI (ai_mO k) i = true) (hr : h.1 a = some (.inr (ai_cWrong, f))) (hw : ai_wt st ≤ 8) (kk : ok G d k (pc + 3) L st h Q) : ok G d k pc L (.ref a :: st) h Q :=
  ok_ex hd rfl (by simp only [ai_ex, ai_spec, ho, hI, if_true, Bool.false_eq_true, if_false, hr, true_and, if_pos (Nat.not_lt.mpr hw)]; rfl) kk
theorem k_callC {i a id n : Nat} {v : Option Value} {h1 : ai_H} (hd : decode (ai_mC k) pc = .ok (.invokespecial i, 3)) (tl rest : List Value) (hst : (Value.ref a :: tl).reverse ++ rest = st) (hg : (ai_oI (ai_mO k) i || ai_wI (ai_mO k) i) = false) (hn : ai_aN (ai_mO k) i = some n) (hl : tl.length + 1 = n) (hw : ai_wt rest ≤ 8) (hT : ai_cT 1 (ai_mO k) i 0 = some id) (hc : ai_call G d id (.ref a :: tl) h = some (.inl v, h1)) (kk : ok G d k (pc + 3) L (v.toList ++ rest) h1 Q) : ok G d k pc L st h Q := by
  subst hst
  refine ok_call hd rfl ?_ hc kk
  simp only [Bool.or_eq_false_iff] at hg
  simp only [ai_ex, ai_spec, hg.1, hg.2, Bool.false_eq_true, if_false]
  exact k_inv hn hl hw (by simp [ai_rc1]) hT
theorem k_callI {i n9 a cI id n : Nat} {f : Nat → Value} {v : Option Value} {h1 : ai_H} (hd : decode (ai_mC k) pc = .ok (.invokeinterface i n9, 5)) (tl rest : List Value) (hst : (Value.ref a :: tl).reverse ++ rest = st) (hr : ai_rd G h a = some (.inr (cI, f))) (hn : ai_aN (ai_mO k) i = some n) (hl : tl.length + 1 = n) (hw : ai_wt rest ≤ 8) (hT : ai_cT 3 (ai_mO k) i cI = some id) (hc : ai_call G d id (.ref a :: tl) h = some (.inl v, h1)) (kk : ok G d k (pc + 5) L (v.toList ++ rest) h1 Q) : ok G d k pc L st h Q := by
  subst hst
  refine ok_call hd rfl ?_ hc kk
  simp only [ai_ex]
  exact k_inv hn hl hw (by simp [ai_rc, hr]) hT
theorem k_athrow {q : Nat} {f : Nat → Value} (hd : decode (ai_mC k) pc = .ok (.athrow, 1)) (hr : h.1 q = some (.inr (ai_cWrong, f))) (hH : ai_mH k = []) (ht : ai_thr k = true) (hq : Q (.inr q) h) : ok G d k pc L (.ref q :: st) h Q :=
  ok_end hd rfl (by simp only [ai_ex, hr, hH, ht, and_self, if_true]) hq
/-- a call that throws: out of this method too, or to its handler -/
theorem ok_thr {i : Instr} {len id pc' q : Nat} {as rest : List Value} {h1 : ai_H} (hd : decode (ai_mC k) pc = .ok (i, len)) (hl : ai_lok i len = true) (e : ai_ex G k i pc L st h = some (.inr (.inl (id, as, pc', rest)))) (hc : ai_call G d id as h = some (.inr q, h1)) (ht : ai_thr id = true) (hn : ai_catch k pc = none) (hq : Q (.inr q) h1) : ok G d k pc L st h Q := by
  refine ⟨_, _, ai_run_thr (pc' := pc') (rest := rest) ?_ hc ht hn, hq⟩
  unfold ai_step
  rw [hd]
  simp only [hl, if_true]
  exact e
theorem ok_cat {i : Instr} {len id pc' q t : Nat} {as rest : List Value} {h1 : ai_H} (hd : decode (ai_mC k) pc = .ok (i, len)) (hl : ai_lok i len = true) (e : ai_ex G k i pc L st h = some (.inr (.inl (id, as, pc', rest)))) (hc : ai_call G d id as h = some (.inr q, h1)) (ht : ai_thr id = true) (hn : ai_catch k pc = some t) (kk : ok G d k t L [.ref q] h1 Q) : ok G d k pc L st h Q := by
  obtain ⟨r, h2, e1, e2⟩ := kk
  refine ⟨r, h2, (ai_run_cat (pc' := pc') (rest := rest) ?_ hc ht hn).trans e1, e2⟩
  unfold ai_step
  rw [hd]
  simp only [hl, if_true]
  exact e
theorem x_callV {i a cI id n : Nat} {f : Nat → Value} (tl rest : List Value) (hst : (Value.ref a :: tl).reverse ++ rest = st) (hr : ai_rd G h a = some (.inr (cI, f))) (hg : ai_gcI (ai_mO k) i = false) (hn : ai_aN (ai_mO k) i = some n) (hl : tl.length + 1 = n) (hw : ai_wt rest ≤ 8) (hT : ai_cT 2 (ai_mO k) i cI = some id) : ai_ex G k (.invokevirtual i) pc L st h = some (.inr (.inl (id, .ref a :: tl, pc + 3, rest))) := by
  subst hst
  simp only [ai_ex, ai_virt, hg, Bool.false_eq_true, if_false]
  exact k_inv hn hl hw (by simp [ai_rc, hr]) hT
end OK3

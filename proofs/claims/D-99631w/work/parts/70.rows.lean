/-! LAYER 2: rows of the interpreter, goal first: ok G d k pc L st h Q: from here the method ends, and Q holds of its end -/
def ok (G : ai_G) (d k pc : Nat) (L : ai_L) (st : List Value) (h : ai_H) (Q : Option Value ⊕ Nat → ai_H → Prop) : Prop := ∃ r h', ai_run G d k pc L st h = some (r, h') ∧ Q r h'
section OK
variable {G : ai_G} {d k pc : Nat} {L : ai_L} {st : List Value} {h : ai_H} {Q : Option Value ⊕ Nat → ai_H → Prop}
theorem ok_nx {pc' : Nat} {L' : ai_L} {st' : List Value} {h' : ai_H} (e : ai_step G k pc L st h = some (.inl (pc', L', st', h'))) (kk : ok G d k pc' L' st' h' Q) : ok G d k pc L st h Q := by
  obtain ⟨r, h1, e1, e2⟩ := kk
  exact ⟨r, h1, (ai_run_nx e).trans e1, e2⟩
theorem ok_ex {i : Instr} {len pc' : Nat} {L' : ai_L} {st' : List Value} {h' : ai_H} (hd : decode (ai_mC k) pc = .ok (i, len)) (hl : ai_lok i len = true) (e : ai_ex G k i pc L st h = some (.inl (pc', L', st', h'))) (kk : ok G d k pc' L' st' h' Q) : ok G d k pc L st h Q := by
  refine ok_nx ?_ kk
  unfold ai_step
  rw [hd]
  simp only [hl, if_true]
  exact e
theorem ok_end {i : Instr} {len : Nat} {r : Option Value ⊕ Nat} {h' : ai_H} (hd : decode (ai_mC k) pc = .ok (i, len)) (hl : ai_lok i len = true) (e : ai_ex G k i pc L st h = some (.inr (.inr (r, h')))) (hq : Q r h') : ok G d k pc L st h Q := by
  refine ⟨r, h', ai_run_no ?_, hq⟩
  unfold ai_step
  rw [hd]
  simp only [hl, if_true]
  exact e
theorem k_null  (hd : decode (ai_mC k) pc = .ok (.aconst_null, 1)) (kk : ok G d k (pc + 1) L (.null :: st) h Q) : ok G d k pc L (st) h Q := ok_ex hd rfl (rfl) kk
theorem k_iconst {n : Int} {v : Int32} (hd : decode (ai_mC k) pc = .ok (.iconst n, 1)) (hv : Int32.ofInt n = v) (kk : ok G d k (pc + 1) L (.int v :: st) h Q) : ok G d k pc L (st) h Q := ok_ex hd rfl (by subst hv; rfl) kk
theorem k_lconst {n : Fin 2} {v : Int64} (hd : decode (ai_mC k) pc = .ok (.lconst n, 1)) (hv : Int64.ofNat n.val = v) (kk : ok G d k (pc + 1) L (.long v :: st) h Q) : ok G d k pc L (st) h Q := ok_ex hd rfl (by subst hv; rfl) kk
theorem k_bipush {n : Int} {v : Int32} (hd : decode (ai_mC k) pc = .ok (.bipush n, 2)) (hv : (Int8.ofInt n).toInt32 = v) (kk : ok G d k (pc + 2) L (.int v :: st) h Q) : ok G d k pc L (st) h Q := ok_ex hd rfl (by subst hv; rfl) kk
theorem k_sipush {n : Int} {v : Int32} (hd : decode (ai_mC k) pc = .ok (.sipush n, 3)) (hv : (Int16.ofInt n).toInt32 = v) (kk : ok G d k (pc + 3) L (.int v :: st) h Q) : ok G d k pc L (st) h Q := ok_ex hd rfl (by subst hv; rfl) kk
theorem k_iload {i : Nat} {x : Int32} (hd : decode (ai_mC k) pc = .ok (.iload i, 2)) (hi : L[i]? = some (some (.int x))) (kk : ok G d k (pc + 2) L (.int x :: st) h Q) : ok G d k pc L (st) h Q := ok_ex hd rfl (by simp only [ai_ex, ai_ldi, hi]; rfl) kk
theorem k_iload_n {j : Fin 4} {x : Int32} (hd : decode (ai_mC k) pc = .ok (.iload_n j, 1)) (hi : L[j.val]? = some (some (.int x))) (kk : ok G d k (pc + 1) L (.int x :: st) h Q) : ok G d k pc L (st) h Q := ok_ex hd rfl (by simp only [ai_ex, ai_ldi, hi]; rfl) kk
theorem k_lload {i : Nat} {x : Int64} (hd : decode (ai_mC k) pc = .ok (.lload i, 2)) (hi : L[i]? = some (some (.long x))) (kk : ok G d k (pc + 2) L (.long x :: st) h Q) : ok G d k pc L (st) h Q := ok_ex hd rfl (by simp only [ai_ex, ai_ldl, hi]; rfl) kk
theorem k_lload_n {j : Fin 4} {x : Int64} (hd : decode (ai_mC k) pc = .ok (.lload_n j, 1)) (hi : L[j.val]? = some (some (.long x))) (kk : ok G d k (pc + 1) L (.long x :: st) h Q) : ok G d k pc L (st) h Q := ok_ex hd rfl (by simp only [ai_ex, ai_ldl, hi]; rfl) kk
theorem k_aload {i : Nat} {x : Nat} (hd : decode (ai_mC k) pc = .ok (.aload i, 2)) (hi : L[i]? = some (some (.ref x))) (kk : ok G d k (pc + 2) L (.ref x :: st) h Q) : ok G d k pc L (st) h Q := ok_ex hd rfl (by simp only [ai_ex, ai_lda, hi]; rfl) kk
theorem k_aload_n {j : Fin 4} {x : Nat} (hd : decode (ai_mC k) pc = .ok (.aload_n j, 1)) (hi : L[j.val]? = some (some (.ref x))) (kk : ok G d k (pc + 1) L (.ref x :: st) h Q) : ok G d k pc L (st) h Q := ok_ex hd rfl (by simp only [ai_ex, ai_lda, hi]; rfl) kk
theorem k_aloadN_n {j : Fin 4} (hd : decode (ai_mC k) pc = .ok (.aload_n j, 1)) (hi : L[j.val]? = some (some .null)) (kk : ok G d k (pc + 1) L (.null :: st) h Q) : ok G d k pc L (st) h Q := ok_ex hd rfl (by simp only [ai_ex, ai_lda, hi]; rfl) kk
theorem k_istore {i : Nat} {x : Int32} {L' : ai_L} (hd : decode (ai_mC k) pc = .ok (.istore i, 2)) (hl : i < L.length) (hL : ai_st1 L i (.int x) = L') (kk : ok G d k (pc + 2) L' (st) h Q) : ok G d k pc L (.int x :: st) h Q := ok_ex hd rfl (by subst hL; simp only [ai_ex, ai_sti, hl, if_true]; rfl) kk
theorem k_istore_n {j : Fin 4} {x : Int32} {L' : ai_L} (hd : decode (ai_mC k) pc = .ok (.istore_n j, 1)) (hl : j.val < L.length) (hL : ai_st1 L j.val (.int x) = L') (kk : ok G d k (pc + 1) L' (st) h Q) : ok G d k pc L (.int x :: st) h Q := ok_ex hd rfl (by subst hL; simp only [ai_ex, ai_sti, hl, if_true]; rfl) kk
theorem k_astore {i : Nat} {x : Nat} {L' : ai_L} (hd : decode (ai_mC k) pc = .ok (.astore i, 2)) (hl : i < L.length) (hL : ai_st1 L i (.ref x) = L') (kk : ok G d k (pc + 2) L' (st) h Q) : ok G d k pc L (.ref x :: st) h Q := ok_ex hd rfl (by subst hL; simp only [ai_ex, ai_sta, hl, if_true]; rfl) kk
theorem k_astore_n {j : Fin 4} {x : Nat} {L' : ai_L} (hd : decode (ai_mC k) pc = .ok (.astore_n j, 1)) (hl : j.val < L.length) (hL : ai_st1 L j.val (.ref x) = L') (kk : ok G d k (pc + 1) L' (st) h Q) : ok G d k pc L (.ref x :: st) h Q := ok_ex hd rfl (by subst hL; simp only [ai_ex, ai_sta, hl, if_true]; rfl) kk
theorem k_lstore {i : Nat} {x : Int64} {L' : ai_L} (hd : decode (ai_mC k) pc = .ok (.lstore i, 2)) (hl : i + 1 < L.length) (hL : ai_st2 L i (.long x) = L') (kk : ok G d k (pc + 2) L' (st) h Q) : ok G d k pc L (.long x :: st) h Q := ok_ex hd rfl (by subst hL; simp only [ai_ex, ai_stl, hl, if_true]; rfl) kk
theorem k_lstore_n {j : Fin 4} {x : Int64} {L' : ai_L} (hd : decode (ai_mC k) pc = .ok (.lstore_n j, 1)) (hl : j.val + 1 < L.length) (hL : ai_st2 L j.val (.long x) = L') (kk : ok G d k (pc + 1) L' (st) h Q) : ok G d k pc L (.long x :: st) h Q := ok_ex hd rfl (by subst hL; simp only [ai_ex, ai_stl, hl, if_true]; rfl) kk
theorem k_iinc {i : Nat} {n : Int} {x v : Int32} {L' : ai_L} (hd : decode (ai_mC k) pc = .ok (.iinc i n, 3)) (hi : L[i]? = some (some (.int x))) (hl : i < L.length) (hv : x + Int32.ofInt n = v) (hL : ai_st1 L i (.int v) = L') (kk : ok G d k (pc + 3) L' (st) h Q) : ok G d k pc L (st) h Q := ok_ex hd rfl (by subst hL; subst hv; simp only [ai_ex, ai_iinc, hi, hl, if_true]; rfl) kk
theorem k_iadd {x y : Int32} (hd : decode (ai_mC k) pc = .ok (.iadd, 1)) (kk : ok G d k (pc + 1) L (.int (x + y) :: st) h Q) : ok G d k pc L (.int y :: .int x :: st) h Q := ok_ex hd rfl (rfl) kk
theorem k_isub {x y : Int32} (hd : decode (ai_mC k) pc = .ok (.isub, 1)) (kk : ok G d k (pc + 1) L (.int (x - y) :: st) h Q) : ok G d k pc L (.int y :: .int x :: st) h Q := ok_ex hd rfl (rfl) kk
theorem k_imul {x y : Int32} (hd : decode (ai_mC k) pc = .ok (.imul, 1)) (kk : ok G d k (pc + 1) L (.int (x * y) :: st) h Q) : ok G d k pc L (.int y :: .int x :: st) h Q := ok_ex hd rfl (rfl) kk
theorem k_iand {x y : Int32} (hd : decode (ai_mC k) pc = .ok (.iand, 1)) (kk : ok G d k (pc + 1) L (.int (x &&& y) :: st) h Q) : ok G d k pc L (.int y :: .int x :: st) h Q := ok_ex hd rfl (rfl) kk
theorem k_ior {x y : Int32} (hd : decode (ai_mC k) pc = .ok (.ior, 1)) (kk : ok G d k (pc + 1) L (.int (x ||| y) :: st) h Q) : ok G d k pc L (.int y :: .int x :: st) h Q := ok_ex hd rfl (rfl) kk
theorem k_ixor {x y : Int32} (hd : decode (ai_mC k) pc = .ok (.ixor, 1)) (kk : ok G d k (pc + 1) L (.int (x ^^^ y) :: st) h Q) : ok G d k pc L (.int y :: .int x :: st) h Q := ok_ex hd rfl (rfl) kk
theorem k_ishl {x y : Int32} (hd : decode (ai_mC k) pc = .ok (.ishl, 1)) (kk : ok G d k (pc + 1) L (.int (x <<< (y &&& 31)) :: st) h Q) : ok G d k pc L (.int y :: .int x :: st) h Q := ok_ex hd rfl (rfl) kk
theorem k_ishr {x y : Int32} (hd : decode (ai_mC k) pc = .ok (.ishr, 1)) (kk : ok G d k (pc + 1) L (.int (x >>> (y &&& 31)) :: st) h Q) : ok G d k pc L (.int y :: .int x :: st) h Q := ok_ex hd rfl (rfl) kk
theorem k_iushr {x y : Int32} (hd : decode (ai_mC k) pc = .ok (.iushr, 1)) (kk : ok G d k (pc + 1) L (.int ((x.toUInt32 >>> (y.toUInt32 &&& Int32.toUInt32 31)).toInt32) :: st) h Q) : ok G d k pc L (.int y :: .int x :: st) h Q := ok_ex hd rfl (rfl) kk
theorem k_idiv {x y : Int32} (hd : decode (ai_mC k) pc = .ok (.idiv, 1)) (hy : ¬ y = 0) (kk : ok G d k (pc + 1) L (.int (x / y) :: st) h Q) : ok G d k pc L (.int y :: .int x :: st) h Q := ok_ex hd rfl (by simp only [ai_ex, ai_id, if_neg hy]; rfl) kk
theorem k_irem {x y : Int32} (hd : decode (ai_mC k) pc = .ok (.irem, 1)) (hy : ¬ y = 0) (kk : ok G d k (pc + 1) L (.int (x - x / y * y) :: st) h Q) : ok G d k pc L (.int y :: .int x :: st) h Q := ok_ex hd rfl (by simp only [ai_ex, ai_id, if_neg hy]; rfl) kk
theorem k_ineg {x : Int32} (hd : decode (ai_mC k) pc = .ok (.ineg, 1)) (kk : ok G d k (pc + 1) L (.int (-x) :: st) h Q) : ok G d k pc L (.int x :: st) h Q := ok_ex hd rfl (rfl) kk
theorem k_i2b {x : Int32} (hd : decode (ai_mC k) pc = .ok (.i2b, 1)) (kk : ok G d k (pc + 1) L (.int (x.toInt8.toInt32) :: st) h Q) : ok G d k pc L (.int x :: st) h Q := ok_ex hd rfl (rfl) kk
theorem k_i2c {x : Int32} (hd : decode (ai_mC k) pc = .ok (.i2c, 1)) (kk : ok G d k (pc + 1) L (.int ((x.toUInt32 % 65536).toInt32) :: st) h Q) : ok G d k pc L (.int x :: st) h Q := ok_ex hd rfl (rfl) kk
theorem k_i2l {x : Int32} (hd : decode (ai_mC k) pc = .ok (.i2l, 1)) (kk : ok G d k (pc + 1) L (.long x.toInt64 :: st) h Q) : ok G d k pc L (.int x :: st) h Q := ok_ex hd rfl (rfl) kk
theorem k_lshl {x : Int64} {y : Int32} (hd : decode (ai_mC k) pc = .ok (.lshl, 1)) (kk : ok G d k (pc + 1) L (.long (x <<< (y.toInt64 &&& 63)) :: st) h Q) : ok G d k pc L (.int y :: .long x :: st) h Q := ok_ex hd rfl (rfl) kk
theorem k_lor {x y : Int64} (hd : decode (ai_mC k) pc = .ok (.lor, 1)) (kk : ok G d k (pc + 1) L (.long (x ||| y) :: st) h Q) : ok G d k pc L (.long y :: .long x :: st) h Q := ok_ex hd rfl (rfl) kk
theorem k_lcmp {x y : Int64} (hd : decode (ai_mC k) pc = .ok (.lcmp, 1)) (kk : ok G d k (pc + 1) L (.int (lg_cmp x y) :: st) h Q) : ok G d k pc L (.long y :: .long x :: st) h Q := ok_ex hd rfl (rfl) kk
theorem k_dup {v : Value} (hd : decode (ai_mC k) pc = .ok (.dup, 1)) (hv : ai_cat1 v = true) (kk : ok G d k (pc + 1) L (v :: v :: st) h Q) : ok G d k pc L (v :: st) h Q := ok_ex hd rfl (by simp only [ai_ex, hv, if_true]; rfl) kk
theorem k_pop {v : Value} (hd : decode (ai_mC k) pc = .ok (.pop, 1)) (hv : ai_cat1 v = true) (kk : ok G d k (pc + 1) L (st) h Q) : ok G d k pc L (v :: st) h Q := ok_ex hd rfl (by simp only [ai_ex, hv, if_true]; rfl) kk
theorem k_dup_x1 {v u : Value} (hd : decode (ai_mC k) pc = .ok (.dup_x1, 1)) (hv : ai_cat1 v = true) (hu : ai_cat1 u = true) (kk : ok G d k (pc + 1) L (v :: u :: v :: st) h Q) : ok G d k pc L (v :: u :: st) h Q := ok_ex hd rfl (by simp only [ai_ex, hv, hu, Bool.and_self, if_true]; rfl) kk
theorem k_dup2 {v u : Value} (hd : decode (ai_mC k) pc = .ok (.dup2, 1)) (hv : ai_cat1 v = true) (hu : ai_cat1 u = true) (kk : ok G d k (pc + 1) L (v :: u :: v :: u :: st) h Q) : ok G d k pc L (v :: u :: st) h Q := ok_ex hd rfl (by simp only [ai_ex, hv, hu, Bool.and_self, if_true]; rfl) kk
theorem k_goto {off : Int} {t : Nat} (hd : decode (ai_mC k) pc = .ok (.goto off, 3)) (ht : ai_jp pc off = some t) (kk : ok G d k t L st h Q) : ok G d k pc L st h Q := ok_ex hd rfl (by simp only [ai_ex, ht]; rfl) kk
theorem k_icmp_eq {x y : Int32} {off : Int} {t : Nat} (hd : decode (ai_mC k) pc = .ok (.if_icmp .eq off, 3)) (ht : ai_jp pc off = some t) (kt : x = y → ok G d k t L st h Q) (kf : ¬ x = y → ok G d k (pc + 3) L st h Q) : ok G d k pc L (.int y :: .int x :: st) h Q := by
  by_cases hc : x = y
  · exact ok_ex hd rfl (by simp only [ai_ex, ai_go1, ht, ai_ic, Option.bind_some, decide_eq_true hc, if_true]; rfl) (kt hc)
  · exact ok_ex hd rfl (by simp only [ai_ex, ai_go1, ht, ai_ic, Option.bind_some, decide_eq_false hc, Bool.false_eq_true, if_false]; rfl) (kf hc)
theorem k_if_eq {x : Int32} {off : Int} {t : Nat} (hd : decode (ai_mC k) pc = .ok (.ifCond .eq off, 3)) (ht : ai_jp pc off = some t) (kt : x = 0 → ok G d k t L st h Q) (kf : ¬ x = 0 → ok G d k (pc + 3) L st h Q) : ok G d k pc L (.int x :: st) h Q := by
  by_cases hc : x = 0
  · exact ok_ex hd rfl (by simp only [ai_ex, ai_go1, ht, ai_ic, Option.bind_some, decide_eq_true hc, if_true]; rfl) (kt hc)
  · exact ok_ex hd rfl (by simp only [ai_ex, ai_go1, ht, ai_ic, Option.bind_some, decide_eq_false hc, Bool.false_eq_true, if_false]; rfl) (kf hc)
theorem k_icmp_ne {x y : Int32} {off : Int} {t : Nat} (hd : decode (ai_mC k) pc = .ok (.if_icmp .ne off, 3)) (ht : ai_jp pc off = some t) (kt : ¬ x = y → ok G d k t L st h Q) (kf : x = y → ok G d k (pc + 3) L st h Q) : ok G d k pc L (.int y :: .int x :: st) h Q := by
  by_cases hc : ¬ x = y
  · exact ok_ex hd rfl (by simp only [ai_ex, ai_go1, ht, ai_ic, Option.bind_some, decide_eq_true hc, if_true]; rfl) (kt hc)
  · exact ok_ex hd rfl (by simp only [ai_ex, ai_go1, ht, ai_ic, Option.bind_some, decide_eq_false hc, Bool.false_eq_true, if_false]; rfl) (kf (Decidable.of_not_not hc))
theorem k_if_ne {x : Int32} {off : Int} {t : Nat} (hd : decode (ai_mC k) pc = .ok (.ifCond .ne off, 3)) (ht : ai_jp pc off = some t) (kt : ¬ x = 0 → ok G d k t L st h Q) (kf : x = 0 → ok G d k (pc + 3) L st h Q) : ok G d k pc L (.int x :: st) h Q := by
  by_cases hc : ¬ x = 0
  · exact ok_ex hd rfl (by simp only [ai_ex, ai_go1, ht, ai_ic, Option.bind_some, decide_eq_true hc, if_true]; rfl) (kt hc)
  · exact ok_ex hd rfl (by simp only [ai_ex, ai_go1, ht, ai_ic, Option.bind_some, decide_eq_false hc, Bool.false_eq_true, if_false]; rfl) (kf (Decidable.of_not_not hc))
theorem k_icmp_lt {x y : Int32} {off : Int} {t : Nat} (hd : decode (ai_mC k) pc = .ok (.if_icmp .lt off, 3)) (ht : ai_jp pc off = some t) (kt : x < y → ok G d k t L st h Q) (kf : ¬ x < y → ok G d k (pc + 3) L st h Q) : ok G d k pc L (.int y :: .int x :: st) h Q := by
  by_cases hc : x < y
  · exact ok_ex hd rfl (by simp only [ai_ex, ai_go1, ht, ai_ic, Option.bind_some, decide_eq_true hc, if_true]; rfl) (kt hc)
  · exact ok_ex hd rfl (by simp only [ai_ex, ai_go1, ht, ai_ic, Option.bind_some, decide_eq_false hc, Bool.false_eq_true, if_false]; rfl) (kf hc)
theorem k_if_lt {x : Int32} {off : Int} {t : Nat} (hd : decode (ai_mC k) pc = .ok (.ifCond .lt off, 3)) (ht : ai_jp pc off = some t) (kt : x < 0 → ok G d k t L st h Q) (kf : ¬ x < 0 → ok G d k (pc + 3) L st h Q) : ok G d k pc L (.int x :: st) h Q := by
  by_cases hc : x < 0
  · exact ok_ex hd rfl (by simp only [ai_ex, ai_go1, ht, ai_ic, Option.bind_some, decide_eq_true hc, if_true]; rfl) (kt hc)
  · exact ok_ex hd rfl (by simp only [ai_ex, ai_go1, ht, ai_ic, Option.bind_some, decide_eq_false hc, Bool.false_eq_true, if_false]; rfl) (kf hc)
theorem k_icmp_ge {x y : Int32} {off : Int} {t : Nat} (hd : decode (ai_mC k) pc = .ok (.if_icmp .ge off, 3)) (ht : ai_jp pc off = some t) (kt : y ≤ x → ok G d k t L st h Q) (kf : ¬ y ≤ x → ok G d k (pc + 3) L st h Q) : ok G d k pc L (.int y :: .int x :: st) h Q := by
  by_cases hc : y ≤ x
  · exact ok_ex hd rfl (by simp only [ai_ex, ai_go1, ht, ai_ic, Option.bind_some, decide_eq_true hc, if_true]; rfl) (kt hc)
  · exact ok_ex hd rfl (by simp only [ai_ex, ai_go1, ht, ai_ic, Option.bind_some, decide_eq_false hc, Bool.false_eq_true, if_false]; rfl) (kf hc)
theorem k_if_ge {x : Int32} {off : Int} {t : Nat} (hd : decode (ai_mC k) pc = .ok (.ifCond .ge off, 3)) (ht : ai_jp pc off = some t) (kt : 0 ≤ x → ok G d k t L st h Q) (kf : ¬ 0 ≤ x → ok G d k (pc + 3) L st h Q) : ok G d k pc L (.int x :: st) h Q := by
  by_cases hc : 0 ≤ x
  · exact ok_ex hd rfl (by simp only [ai_ex, ai_go1, ht, ai_ic, Option.bind_some, decide_eq_true hc, if_true]; rfl) (kt hc)
  · exact ok_ex hd rfl (by simp only [ai_ex, ai_go1, ht, ai_ic, Option.bind_some, decide_eq_false hc, Bool.false_eq_true, if_false]; rfl) (kf hc)
theorem k_icmp_gt {x y : Int32} {off : Int} {t : Nat} (hd : decode (ai_mC k) pc = .ok (.if_icmp .gt off, 3)) (ht : ai_jp pc off = some t) (kt : y < x → ok G d k t L st h Q) (kf : ¬ y < x → ok G d k (pc + 3) L st h Q) : ok G d k pc L (.int y :: .int x :: st) h Q := by
  by_cases hc : y < x
  · exact ok_ex hd rfl (by simp only [ai_ex, ai_go1, ht, ai_ic, Option.bind_some, decide_eq_true hc, if_true]; rfl) (kt hc)
  · exact ok_ex hd rfl (by simp only [ai_ex, ai_go1, ht, ai_ic, Option.bind_some, decide_eq_false hc, Bool.false_eq_true, if_false]; rfl) (kf hc)
theorem k_if_gt {x : Int32} {off : Int} {t : Nat} (hd : decode (ai_mC k) pc = .ok (.ifCond .gt off, 3)) (ht : ai_jp pc off = some t) (kt : 0 < x → ok G d k t L st h Q) (kf : ¬ 0 < x → ok G d k (pc + 3) L st h Q) : ok G d k pc L (.int x :: st) h Q := by
  by_cases hc : 0 < x
  · exact ok_ex hd rfl (by simp only [ai_ex, ai_go1, ht, ai_ic, Option.bind_some, decide_eq_true hc, if_true]; rfl) (kt hc)
  · exact ok_ex hd rfl (by simp only [ai_ex, ai_go1, ht, ai_ic, Option.bind_some, decide_eq_false hc, Bool.false_eq_true, if_false]; rfl) (kf hc)
theorem k_icmp_le {x y : Int32} {off : Int} {t : Nat} (hd : decode (ai_mC k) pc = .ok (.if_icmp .le off, 3)) (ht : ai_jp pc off = some t) (kt : x ≤ y → ok G d k t L st h Q) (kf : ¬ x ≤ y → ok G d k (pc + 3) L st h Q) : ok G d k pc L (.int y :: .int x :: st) h Q := by
  by_cases hc : x ≤ y
  · exact ok_ex hd rfl (by simp only [ai_ex, ai_go1, ht, ai_ic, Option.bind_some, decide_eq_true hc, if_true]; rfl) (kt hc)
  · exact ok_ex hd rfl (by simp only [ai_ex, ai_go1, ht, ai_ic, Option.bind_some, decide_eq_false hc, Bool.false_eq_true, if_false]; rfl) (kf hc)
theorem k_if_le {x : Int32} {off : Int} {t : Nat} (hd : decode (ai_mC k) pc = .ok (.ifCond .le off, 3)) (ht : ai_jp pc off = some t) (kt : x ≤ 0 → ok G d k t L st h Q) (kf : ¬ x ≤ 0 → ok G d k (pc + 3) L st h Q) : ok G d k pc L (.int x :: st) h Q := by
  by_cases hc : x ≤ 0
  · exact ok_ex hd rfl (by simp only [ai_ex, ai_go1, ht, ai_ic, Option.bind_some, decide_eq_true hc, if_true]; rfl) (kt hc)
  · exact ok_ex hd rfl (by simp only [ai_ex, ai_go1, ht, ai_ic, Option.bind_some, decide_eq_false hc, Bool.false_eq_true, if_false]; rfl) (kf hc)
end OK

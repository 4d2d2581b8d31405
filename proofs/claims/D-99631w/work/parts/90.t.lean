/-! LAYER 2: the judgement Tj: if the function answers a, the run from here has P a (printed by tools/mk90.py) -/
def Tj {α : Type} (G : ai_G) (d k : Nat) (P : α → Option ai_R → Prop) (z : Option α) (pc : Nat) (L : ai_L) (st : List Value) (h : ai_H) : Prop := ∀ a, z = some a → P a (ai_run G d k pc L st h)
/-- a loop: its body goes on (inl) or ends (inr) -/
def lpN {S R : Type} (b : S → Option (S ⊕ R)) : Nat → S → Option R
  | 0, _ => none
  | n + 1, s => (b s).bind (Sum.elim (lpN b n) some)
noncomputable def lp {S R : Type} (b : S → Option (S ⊕ R)) (s : S) : Option R := ai_fix fun n => lpN b n s
theorem lpN_mono {S R : Type} (b : S → Option (S ⊕ R)) : ∀ (n m : Nat) (s : S) (r : R), lpN b n s = some r → n ≤ m → lpN b m s = some r := by
  intro n
  induction n with
  | zero => intro m s r e; simp [lpN] at e
  | succ n ih =>
    intro m s r e hm
    obtain ⟨m, rfl⟩ : ∃ j, m = j + 1 := ⟨m - 1, by omega⟩
    simp only [lpN] at e ⊢
    cases hb : b s with
    | none => rw [hb] at e; cases e
    | some q =>
      rw [hb] at e
      cases q with
      | inl s1 => exact ih m s1 r e (by omega)
      | inr r1 => exact e
theorem lp_back {S R : Type} {b : S → Option (S ⊕ R)} {s s1 : S} (e : b s = some (.inl s1)) : lp b s = lp b s1 := by
  refine ai_fix_eq (fun n m r => lpN_mono b n m s r) (fun n m r => lpN_mono b n m s1 r) rfl (fun n => ?_)
  simp only [lpN, e, Option.bind_some, Sum.elim_inl]
theorem lp_out {S R : Type} {b : S → Option (S ⊕ R)} {s : S} {r : R} (e : b s = some (.inr r)) : lp b s = some r :=
  ai_fix_some (fun n m r => lpN_mono b n m s r) (n := 1) (by simp only [lpN, e, Option.bind_some, Sum.elim_inr])
theorem lp_some {S R : Type} {b : S → Option (S ⊕ R)} {s : S} {r : R} (e : lp b s = some r) : ∃ n, lpN b n s = some r := ai_fix_get e
/-- a local that nobody reads any more: no long -/
def nlb (v : Option Value) : Bool := match v with
  | some (.long _) => false
  | some (.double _) => false
  | _ => true
abbrev JV : Type := {x : Option Value // nlb x = true}
theorem kill_jv {l : ai_L} {i : Nat} {j : JV} (h : l[i]? = some j.1) : ai_kill l (i + 1) = l := by
  obtain ⟨x, hx⟩ := j
  unfold ai_kill
  simp only at h ⊢
  rw [h]
  cases x with
  | none => rfl
  | some v => cases v <;> first | rfl | (exact absurd hx (by decide)) | (simp [nlb] at hx)
theorem st1_jv {l L' : ai_L} {i : Nat} {j : JV} {v : Value} (h : l[i]? = some j.1) (h2 : l.set (i + 1) (some v) = L') : ai_st1 l (i + 1) v = L' := by
  unfold ai_st1
  rw [kill_jv h]
  exact h2
theorem st2_jv {l L' : ai_L} {i : Nat} {j : JV} {v : Value} (h : l[i]? = some j.1) (h2 : (l.set (i + 1) (some v)).set (i + 2) none = L') : ai_st2 l (i + 1) v = L' := by
  unfold ai_st2
  rw [kill_jv h]
  exact h2
section TT
variable {α : Type} {G : ai_G} {d k pc : Nat} {P : α → Option ai_R → Prop} {z9 : Option α} {L : ai_L} {st : List Value} {h : ai_H}
theorem tx_ex {i : Instr} {len pc' : Nat} {L' : ai_L} {st' : List Value} {h' : ai_H} (hd : decode (ai_mC k) pc = .ok (i, len)) (hl : ai_lok i len = true) (e : ai_ex G k i pc L st h = some (.inl (pc', L', st', h'))) (kk : Tj G d k P z9 pc' L' st' h') : Tj G d k P z9 pc L st h := by
  intro a ha
  have e1 : ai_step G k pc L st h = some (.inl (pc', L', st', h')) := by
    unfold ai_step
    rw [hd]
    simp only [hl, if_true]
    exact e
  rw [ai_run_nx e1]
  exact kk a ha
theorem tx_end {i : Instr} {len : Nat} {r : ai_R} (hd : decode (ai_mC k) pc = .ok (i, len)) (hl : ai_lok i len = true) (e : ai_ex G k i pc L st h = some (.inr (.inr r))) (kk : ∀ a, z9 = some a → P a (some r)) : Tj G d k P z9 pc L st h := by
  intro a ha
  have e1 : ai_step G k pc L st h = some (.inr (.inr r)) := by
    unfold ai_step
    rw [hd]
    simp only [hl, if_true]
    exact e
  rw [ai_run_no e1]
  exact kk a ha
theorem tq_leaf {a : α} (hp : P a (ai_run G d k pc L st h)) : Tj G d k P (some a) pc L st h := by
  intro b hb
  cases hb
  exact hp
theorem tq_none : Tj G d k P none pc L st h := by
  intro b hb
  cases hb
theorem tq_gd {c : Prop} [Decidable c] (kk : c → Tj G d k P z9 pc L st h) : Tj G d k P (if c then z9 else none) pc L st h := by
  intro a ha
  by_cases hc : c
  · rw [if_pos hc] at ha; exact kk hc a ha
  · rw [if_neg hc] at ha; cases ha
theorem tx_bind {β : Type} {y : Option β} {r : β → Option α} (kk : ∀ b, y = some b → Tj G d k P (r b) pc L st h) : Tj G d k P (y.bind r) pc L st h := by
  intro a ha
  cases hy : y with
  | none => rw [hy] at ha; cases ha
  | some b => rw [hy] at ha; exact kk b hy a ha
theorem tx_call {β : Type} {y : Option β} {r : β → Option α} {i : Instr} {len id pc' : Nat} {as rest : List Value} {v : β → Option Value} {hh : β → ai_H} (hd : decode (ai_mC k) pc = .ok (i, len)) (hl : ai_lok i len = true) (e : ai_ex G k i pc L st h = some (.inr (.inl (id, as, pc', rest)))) (hc : ∀ b, y = some b → ai_call G d id as h = some (.inl (v b), hh b)) (kk : ∀ b, Tj G d k P (r b) pc' L ((v b).toList ++ rest) (hh b)) : Tj G d k P (y.bind r) pc L st h := by
  refine tx_bind (fun b hb a ha => ?_)
  have e1 : ai_step G k pc L st h = some (.inr (.inl (id, as, pc', rest))) := by
    unfold ai_step
    rw [hd]
    simp only [hl, if_true]
    exact e
  rw [ai_run_call e1 (hc b hb)]
  exact kk b a ha
theorem tq_meth {args : List Value} (hl : (ai_sl args).length ≤ ai_mL k) (kk : Tj G d k P z9 0 (ai_en k args) [] h) : ∀ a, z9 = some a → P a (ai_call G (d + 1) k args h) := by
  intro a ha
  rw [ai_call_run G d k args h hl]
  exact kk a ha
/-- loops: the body, with P2 for its ends -/
theorem tx_lp {S R JT : Type} {LL : S → JT → ai_L} {HH : S → ai_H} {P2 : R → Option ai_R → Prop} {b : S → Option (S ⊕ R)} (body : ∀ s J, Tj G d k (Sum.elim (fun s run => ∃ J, run = ai_run G d k pc (LL s J) [] (HH s)) P2) (b s) pc (LL s J) [] (HH s)) : ∀ s J q, lp b s = some q → P2 q (ai_run G d k pc (LL s J) [] (HH s)) := by
  intro s J q hq
  obtain ⟨n, hn⟩ := lp_some hq
  clear hq
  induction n generalizing s J with
  | zero => cases hn
  | succ n ih =>
    simp only [lpN] at hn
    cases hb : b s with
    | none => rw [hb] at hn; cases hn
    | some x =>
      rw [hb] at hn
      have := body s J x hb
      cases x with
      | inl s1 =>
        obtain ⟨J1, e⟩ := this
        rw [e]
        exact ih s1 J1 hn
      | inr r1 =>
        cases hn
        exact this
theorem tq_lp1 {S R JT JE : Type} {LL : S → JT → ai_L} {HH : S → ai_H} {pe : Nat} {LE : R → JE → ai_L} {HE : R → ai_H} {b : S → Option (S ⊕ R)} {r : R → Option α} {s : S} {J : JT} (body : ∀ s J, Tj G d k (Sum.elim (fun s run => ∃ J, run = ai_run G d k pc (LL s J) [] (HH s)) (fun q run => ∃ J, run = ai_run G d k pe (LE q J) [] (HE q))) (b s) pc (LL s J) [] (HH s)) (hL : L = LL s J) (hh : h = HH s) (kk : ∀ q J, Tj G d k P (r q) pe (LE q J) [] (HE q)) : Tj G d k P ((lp b s).bind r) pc L [] h := by
  subst hL hh
  refine tx_bind (fun q hq a ha => ?_)
  obtain ⟨J1, e⟩ := tx_lp body s J q hq
  rw [e]
  exact kk q J1 a ha
theorem tq_lp2 {S R R2 JT JE : Type} {LL : S → JT → ai_L} {HH : S → ai_H} {pe : Nat} {LE : R → JE → ai_L} {HE : R → ai_H} {P3 : R2 → Option ai_R → Prop} {b : S → Option (S ⊕ (R ⊕ R2))} {r : R → Option α} {r2 : R2 → Option α} {s : S} {J : JT} (body : ∀ s J, Tj G d k (Sum.elim (fun s run => ∃ J, run = ai_run G d k pc (LL s J) [] (HH s)) (Sum.elim (fun q run => ∃ J, run = ai_run G d k pe (LE q J) [] (HE q)) P3)) (b s) pc (LL s J) [] (HH s)) (hL : L = LL s J) (hh : h = HH s) (k2 : ∀ v run, P3 v run → ∀ a, r2 v = some a → P a run) (kk : ∀ q J, Tj G d k P (r q) pe (LE q J) [] (HE q)) : Tj G d k P ((lp b s).bind (Sum.elim r r2)) pc L [] h := by
  subst hL hh
  refine tx_bind (fun q hq a ha => ?_)
  have := tx_lp body s J q hq
  cases q with
  | inl q =>
    obtain ⟨J1, e⟩ := this
    rw [e]
    exact kk q J1 a ha
  | inr v => exact k2 v _ this a ha
theorem tq_back {S R JT : Type} {LL : S → JT → ai_L} {HH : S → ai_H} {P2 : R → Option ai_R → Prop} {s : S} (J : JT) (hL : L = LL s J) (hh : h = HH s) : Tj G d k (Sum.elim (fun s run => ∃ J, run = ai_run G d k pc (LL s J) [] (HH s)) P2) (some (.inl s)) pc L [] h := by
  subst hL hh
  exact tq_leaf ⟨J, rfl⟩
theorem tq_exit {S R JE : Type} {P1 : S → Option ai_R → Prop} {LE : R → JE → ai_L} {HE : R → ai_H} {q : R} (J : JE) (hL : L = LE q J) (hh : h = HE q) : Tj G d k (Sum.elim P1 (fun q run => ∃ J, run = ai_run G d k pc (LE q J) [] (HE q))) (some (.inr q)) pc L [] h := by
  subst hL hh
  exact tq_leaf ⟨J, rfl⟩
theorem tq_exit2 {S R R2 JE : Type} {P1 : S → Option ai_R → Prop} {P3 : R2 → Option ai_R → Prop} {LE : R → JE → ai_L} {HE : R → ai_H} {q : R} (J : JE) (hL : L = LE q J) (hh : h = HE q) : Tj G d k (Sum.elim P1 (Sum.elim (fun q run => ∃ J, run = ai_run G d k pc (LE q J) [] (HE q)) P3)) (some (.inr (.inl q))) pc L [] h := by
  subst hL hh
  exact tq_leaf ⟨J, rfl⟩
theorem tq_null  (hd : decode (ai_mC k) pc = .ok (.aconst_null, 1)) (kk : Tj G d k P z9 (pc + 1) L (.null :: st) h) : Tj G d k P z9 pc L (st) h := tx_ex hd rfl (rfl) kk
theorem tq_iconst {n : Int} {v : Int32} (hd : decode (ai_mC k) pc = .ok (.iconst n, 1)) (hv : Int32.ofInt n = v) (kk : Tj G d k P z9 (pc + 1) L (.int v :: st) h) : Tj G d k P z9 pc L (st) h := tx_ex hd rfl (by subst hv; rfl) kk
theorem tq_lconst {n : Fin 2} {v : Int64} (hd : decode (ai_mC k) pc = .ok (.lconst n, 1)) (hv : Int64.ofNat n.val = v) (kk : Tj G d k P z9 (pc + 1) L (.long v :: st) h) : Tj G d k P z9 pc L (st) h := tx_ex hd rfl (by subst hv; rfl) kk
theorem tq_bipush {n : Int} {v : Int32} (hd : decode (ai_mC k) pc = .ok (.bipush n, 2)) (hv : (Int8.ofInt n).toInt32 = v) (kk : Tj G d k P z9 (pc + 2) L (.int v :: st) h) : Tj G d k P z9 pc L (st) h := tx_ex hd rfl (by subst hv; rfl) kk
theorem tq_sipush {n : Int} {v : Int32} (hd : decode (ai_mC k) pc = .ok (.sipush n, 3)) (hv : (Int16.ofInt n).toInt32 = v) (kk : Tj G d k P z9 (pc + 3) L (.int v :: st) h) : Tj G d k P z9 pc L (st) h := tx_ex hd rfl (by subst hv; rfl) kk
theorem tq_iload {i : Nat} {x : Int32} (hd : decode (ai_mC k) pc = .ok (.iload i, 2)) (hi : L[i]? = some (some (.int x))) (kk : Tj G d k P z9 (pc + 2) L (.int x :: st) h) : Tj G d k P z9 pc L (st) h := tx_ex hd rfl (by simp only [ai_ex, ai_ldi, hi]; rfl) kk
theorem tq_iload_n {j : Fin 4} {x : Int32} (hd : decode (ai_mC k) pc = .ok (.iload_n j, 1)) (hi : L[j.val]? = some (some (.int x))) (kk : Tj G d k P z9 (pc + 1) L (.int x :: st) h) : Tj G d k P z9 pc L (st) h := tx_ex hd rfl (by simp only [ai_ex, ai_ldi, hi]; rfl) kk
theorem tq_lload {i : Nat} {x : Int64} (hd : decode (ai_mC k) pc = .ok (.lload i, 2)) (hi : L[i]? = some (some (.long x))) (kk : Tj G d k P z9 (pc + 2) L (.long x :: st) h) : Tj G d k P z9 pc L (st) h := tx_ex hd rfl (by simp only [ai_ex, ai_ldl, hi]; rfl) kk
theorem tq_lload_n {j : Fin 4} {x : Int64} (hd : decode (ai_mC k) pc = .ok (.lload_n j, 1)) (hi : L[j.val]? = some (some (.long x))) (kk : Tj G d k P z9 (pc + 1) L (.long x :: st) h) : Tj G d k P z9 pc L (st) h := tx_ex hd rfl (by simp only [ai_ex, ai_ldl, hi]; rfl) kk
theorem tq_aload {i : Nat} {x : Nat} (hd : decode (ai_mC k) pc = .ok (.aload i, 2)) (hi : L[i]? = some (some (.ref x))) (kk : Tj G d k P z9 (pc + 2) L (.ref x :: st) h) : Tj G d k P z9 pc L (st) h := tx_ex hd rfl (by simp only [ai_ex, ai_lda, hi]; rfl) kk
theorem tq_aload_n {j : Fin 4} {x : Nat} (hd : decode (ai_mC k) pc = .ok (.aload_n j, 1)) (hi : L[j.val]? = some (some (.ref x))) (kk : Tj G d k P z9 (pc + 1) L (.ref x :: st) h) : Tj G d k P z9 pc L (st) h := tx_ex hd rfl (by simp only [ai_ex, ai_lda, hi]; rfl) kk
theorem tq_aloadN_n {j : Fin 4} (hd : decode (ai_mC k) pc = .ok (.aload_n j, 1)) (hi : L[j.val]? = some (some .null)) (kk : Tj G d k P z9 (pc + 1) L (.null :: st) h) : Tj G d k P z9 pc L (st) h := tx_ex hd rfl (by simp only [ai_ex, ai_lda, hi]; rfl) kk
theorem tq_istore {i : Nat} {x : Int32} {L' : ai_L} (hd : decode (ai_mC k) pc = .ok (.istore i, 2)) (hl : i < L.length) (hL : ai_st1 L i (.int x) = L') (kk : Tj G d k P z9 (pc + 2) L' (st) h) : Tj G d k P z9 pc L (.int x :: st) h := tx_ex hd rfl (by subst hL; simp only [ai_ex, ai_sti, hl, if_true]; rfl) kk
theorem tq_istore_n {j : Fin 4} {x : Int32} {L' : ai_L} (hd : decode (ai_mC k) pc = .ok (.istore_n j, 1)) (hl : j.val < L.length) (hL : ai_st1 L j.val (.int x) = L') (kk : Tj G d k P z9 (pc + 1) L' (st) h) : Tj G d k P z9 pc L (.int x :: st) h := tx_ex hd rfl (by subst hL; simp only [ai_ex, ai_sti, hl, if_true]; rfl) kk
theorem tq_astore {i : Nat} {x : Nat} {L' : ai_L} (hd : decode (ai_mC k) pc = .ok (.astore i, 2)) (hl : i < L.length) (hL : ai_st1 L i (.ref x) = L') (kk : Tj G d k P z9 (pc + 2) L' (st) h) : Tj G d k P z9 pc L (.ref x :: st) h := tx_ex hd rfl (by subst hL; simp only [ai_ex, ai_sta, hl, if_true]; rfl) kk
theorem tq_astore_n {j : Fin 4} {x : Nat} {L' : ai_L} (hd : decode (ai_mC k) pc = .ok (.astore_n j, 1)) (hl : j.val < L.length) (hL : ai_st1 L j.val (.ref x) = L') (kk : Tj G d k P z9 (pc + 1) L' (st) h) : Tj G d k P z9 pc L (.ref x :: st) h := tx_ex hd rfl (by subst hL; simp only [ai_ex, ai_sta, hl, if_true]; rfl) kk
theorem tq_lstore {i : Nat} {x : Int64} {L' : ai_L} (hd : decode (ai_mC k) pc = .ok (.lstore i, 2)) (hl : i + 1 < L.length) (hL : ai_st2 L i (.long x) = L') (kk : Tj G d k P z9 (pc + 2) L' (st) h) : Tj G d k P z9 pc L (.long x :: st) h := tx_ex hd rfl (by subst hL; simp only [ai_ex, ai_stl, hl, if_true]; rfl) kk
theorem tq_lstore_n {j : Fin 4} {x : Int64} {L' : ai_L} (hd : decode (ai_mC k) pc = .ok (.lstore_n j, 1)) (hl : j.val + 1 < L.length) (hL : ai_st2 L j.val (.long x) = L') (kk : Tj G d k P z9 (pc + 1) L' (st) h) : Tj G d k P z9 pc L (.long x :: st) h := tx_ex hd rfl (by subst hL; simp only [ai_ex, ai_stl, hl, if_true]; rfl) kk
theorem tq_iinc {i : Nat} {n : Int} {x v : Int32} {L' : ai_L} (hd : decode (ai_mC k) pc = .ok (.iinc i n, 3)) (hi : L[i]? = some (some (.int x))) (hl : i < L.length) (hv : x + Int32.ofInt n = v) (hL : ai_st1 L i (.int v) = L') (kk : Tj G d k P z9 (pc + 3) L' (st) h) : Tj G d k P z9 pc L (st) h := tx_ex hd rfl (by subst hL; subst hv; simp only [ai_ex, ai_iinc, hi, hl, if_true]; rfl) kk
theorem tq_iadd {x y : Int32} (hd : decode (ai_mC k) pc = .ok (.iadd, 1)) (kk : Tj G d k P z9 (pc + 1) L (.int (x + y) :: st) h) : Tj G d k P z9 pc L (.int y :: .int x :: st) h := tx_ex hd rfl (rfl) kk
theorem tq_isub {x y : Int32} (hd : decode (ai_mC k) pc = .ok (.isub, 1)) (kk : Tj G d k P z9 (pc + 1) L (.int (x - y) :: st) h) : Tj G d k P z9 pc L (.int y :: .int x :: st) h := tx_ex hd rfl (rfl) kk
theorem tq_imul {x y : Int32} (hd : decode (ai_mC k) pc = .ok (.imul, 1)) (kk : Tj G d k P z9 (pc + 1) L (.int (x * y) :: st) h) : Tj G d k P z9 pc L (.int y :: .int x :: st) h := tx_ex hd rfl (rfl) kk
theorem tq_iand {x y : Int32} (hd : decode (ai_mC k) pc = .ok (.iand, 1)) (kk : Tj G d k P z9 (pc + 1) L (.int (x &&& y) :: st) h) : Tj G d k P z9 pc L (.int y :: .int x :: st) h := tx_ex hd rfl (rfl) kk
theorem tq_ior {x y : Int32} (hd : decode (ai_mC k) pc = .ok (.ior, 1)) (kk : Tj G d k P z9 (pc + 1) L (.int (x ||| y) :: st) h) : Tj G d k P z9 pc L (.int y :: .int x :: st) h := tx_ex hd rfl (rfl) kk
theorem tq_ixor {x y : Int32} (hd : decode (ai_mC k) pc = .ok (.ixor, 1)) (kk : Tj G d k P z9 (pc + 1) L (.int (x ^^^ y) :: st) h) : Tj G d k P z9 pc L (.int y :: .int x :: st) h := tx_ex hd rfl (rfl) kk
theorem tq_ishl {x y : Int32} (hd : decode (ai_mC k) pc = .ok (.ishl, 1)) (kk : Tj G d k P z9 (pc + 1) L (.int (x <<< (y &&& 31)) :: st) h) : Tj G d k P z9 pc L (.int y :: .int x :: st) h := tx_ex hd rfl (rfl) kk
theorem tq_ishr {x y : Int32} (hd : decode (ai_mC k) pc = .ok (.ishr, 1)) (kk : Tj G d k P z9 (pc + 1) L (.int (x >>> (y &&& 31)) :: st) h) : Tj G d k P z9 pc L (.int y :: .int x :: st) h := tx_ex hd rfl (rfl) kk
theorem tq_iushr {x y : Int32} (hd : decode (ai_mC k) pc = .ok (.iushr, 1)) (kk : Tj G d k P z9 (pc + 1) L (.int ((x.toUInt32 >>> (y.toUInt32 &&& Int32.toUInt32 31)).toInt32) :: st) h) : Tj G d k P z9 pc L (.int y :: .int x :: st) h := tx_ex hd rfl (rfl) kk
theorem tq_ineg {x : Int32} (hd : decode (ai_mC k) pc = .ok (.ineg, 1)) (kk : Tj G d k P z9 (pc + 1) L (.int (-x) :: st) h) : Tj G d k P z9 pc L (.int x :: st) h := tx_ex hd rfl (rfl) kk
theorem tq_i2b {x : Int32} (hd : decode (ai_mC k) pc = .ok (.i2b, 1)) (kk : Tj G d k P z9 (pc + 1) L (.int (x.toInt8.toInt32) :: st) h) : Tj G d k P z9 pc L (.int x :: st) h := tx_ex hd rfl (rfl) kk
theorem tq_i2c {x : Int32} (hd : decode (ai_mC k) pc = .ok (.i2c, 1)) (kk : Tj G d k P z9 (pc + 1) L (.int ((x.toUInt32 % 65536).toInt32) :: st) h) : Tj G d k P z9 pc L (.int x :: st) h := tx_ex hd rfl (rfl) kk
theorem tq_i2l {x : Int32} (hd : decode (ai_mC k) pc = .ok (.i2l, 1)) (kk : Tj G d k P z9 (pc + 1) L (.long x.toInt64 :: st) h) : Tj G d k P z9 pc L (.int x :: st) h := tx_ex hd rfl (rfl) kk
theorem tq_lshl {x : Int64} {y : Int32} (hd : decode (ai_mC k) pc = .ok (.lshl, 1)) (kk : Tj G d k P z9 (pc + 1) L (.long (x <<< (y.toInt64 &&& 63)) :: st) h) : Tj G d k P z9 pc L (.int y :: .long x :: st) h := tx_ex hd rfl (rfl) kk
theorem tq_lor {x y : Int64} (hd : decode (ai_mC k) pc = .ok (.lor, 1)) (kk : Tj G d k P z9 (pc + 1) L (.long (x ||| y) :: st) h) : Tj G d k P z9 pc L (.long y :: .long x :: st) h := tx_ex hd rfl (rfl) kk
theorem tq_lcmp {x y : Int64} (hd : decode (ai_mC k) pc = .ok (.lcmp, 1)) (kk : Tj G d k P z9 (pc + 1) L (.int (lg_cmp x y) :: st) h) : Tj G d k P z9 pc L (.long y :: .long x :: st) h := tx_ex hd rfl (rfl) kk
theorem tq_dup {v : Value} (hd : decode (ai_mC k) pc = .ok (.dup, 1)) (hv : ai_cat1 v = true) (kk : Tj G d k P z9 (pc + 1) L (v :: v :: st) h) : Tj G d k P z9 pc L (v :: st) h := tx_ex hd rfl (by simp only [ai_ex, hv, if_true]; rfl) kk
theorem tq_pop {v : Value} (hd : decode (ai_mC k) pc = .ok (.pop, 1)) (hv : ai_cat1 v = true) (kk : Tj G d k P z9 (pc + 1) L (st) h) : Tj G d k P z9 pc L (v :: st) h := tx_ex hd rfl (by simp only [ai_ex, hv, if_true]; rfl) kk
theorem tq_dup_x1 {v u : Value} (hd : decode (ai_mC k) pc = .ok (.dup_x1, 1)) (hv : ai_cat1 v = true) (hu : ai_cat1 u = true) (kk : Tj G d k P z9 (pc + 1) L (v :: u :: v :: st) h) : Tj G d k P z9 pc L (v :: u :: st) h := tx_ex hd rfl (by simp only [ai_ex, hv, hu, Bool.and_self, if_true]; rfl) kk
theorem tq_dup2 {v u : Value} (hd : decode (ai_mC k) pc = .ok (.dup2, 1)) (hv : ai_cat1 v = true) (hu : ai_cat1 u = true) (kk : Tj G d k P z9 (pc + 1) L (v :: u :: v :: u :: st) h) : Tj G d k P z9 pc L (v :: u :: st) h := tx_ex hd rfl (by simp only [ai_ex, hv, hu, Bool.and_self, if_true]; rfl) kk
theorem tq_goto {off : Int} {t : Nat} (hd : decode (ai_mC k) pc = .ok (.goto off, 3)) (ht : ai_jp pc off = some t) (kk : Tj G d k P z9 t L st h) : Tj G d k P z9 pc L st h := tx_ex hd rfl (by simp only [ai_ex, ht]; rfl) kk
theorem tq_ldc {i : Nat} {v : Value} (hd : decode (ai_mC k) pc = .ok (.ldc i, 2)) (hv : ai_lT G (ai_mO k) i = some v) (kk : Tj G d k P z9 (pc + 2) L (v :: st) h) : Tj G d k P z9 pc L st h :=
  tx_ex hd rfl (by simp only [ai_ex, hv, ai_pushv]; rfl) kk
theorem tq_ldc_w {i : Nat} {v : Value} (hd : decode (ai_mC k) pc = .ok (.ldc_w i, 3)) (hm : ai_mrI (ai_mO k) i = false) (hv : ai_lT G (ai_mO k) i = some v) (kk : Tj G d k P z9 (pc + 3) L (v :: st) h) : Tj G d k P z9 pc L st h :=
  tx_ex hd rfl (by simp only [ai_ex, hv, hm, Bool.false_eq_true, if_false, ai_pushv]; rfl) kk
theorem tq_ldc2 {i : Nat} {v : Value} (hd : decode (ai_mC k) pc = .ok (.ldc2_w i, 3)) (hv : ai_l2T (ai_mO k) i = some v) (kk : Tj G d k P z9 (pc + 3) L (v :: st) h) : Tj G d k P z9 pc L st h :=
  tx_ex hd rfl (by simp only [ai_ex, hv, ai_pushv]; rfl) kk
theorem tq_gets {i : Nat} {v : Value} (hd : decode (ai_mC k) pc = .ok (.getstatic i, 3)) (hv : ai_gT G (ai_mO k) i = some v) (kk : Tj G d k P z9 (pc + 3) L (v :: st) h) : Tj G d k P z9 pc L st h :=
  tx_ex hd rfl (by simp only [ai_ex, hv, ai_pushv]; rfl) kk
theorem tq_new {i c a : Nat} {h' : ai_H} (hd : decode (ai_mC k) pc = .ok (.new i, 3)) (hc : ai_nT (ai_mO k) i = some c) (ha : h.2.1 = a) (hh : ai_push h (.inr (c, fun k => defaultValue (ai_ty c k))) (ai_nf c) = h') (kk : Tj G d k P z9 (pc + 3) L (.ref a :: st) h') : Tj G d k P z9 pc L st h :=
  tx_ex hd rfl (by subst ha; subst hh; simp only [ai_ex, ai_new, hc]; rfl) kk
theorem tq_newI {n : Int32} {a : Nat} {h' : ai_H} (hd : decode (ai_mC k) pc = .ok (.newarray .int, 2)) (hn : ¬ (n < 0 ∨ 65536 < n.toNatClampNeg)) (ha : h.2.1 = a) (hh : ai_push h (.inl (0, n.toNatClampNeg, .inl (fun _ => 0))) n.toNatClampNeg = h') (kk : Tj G d k P z9 (pc + 2) L (.ref a :: st) h') : Tj G d k P z9 pc L (.int n :: st) h :=
  tx_ex hd rfl (by subst ha; subst hh; simp only [ai_ex, ai_newa, if_neg hn]; rfl) kk
theorem tq_newZ {n : Int32} {a : Nat} {h' : ai_H} (hd : decode (ai_mC k) pc = .ok (.newarray .boolean, 2)) (hn : ¬ (n < 0 ∨ 65536 < n.toNatClampNeg)) (ha : h.2.1 = a) (hh : ai_push h (.inl (1, n.toNatClampNeg, .inl (fun _ => 0))) n.toNatClampNeg = h') (kk : Tj G d k P z9 (pc + 2) L (.ref a :: st) h') : Tj G d k P z9 pc L (.int n :: st) h :=
  tx_ex hd rfl (by subst ha; subst hh; simp only [ai_ex, ai_newa, if_neg hn]; rfl) kk
theorem tq_newB {n : Int32} {a : Nat} {h' : ai_H} (hd : decode (ai_mC k) pc = .ok (.newarray .byte, 2)) (hn : ¬ (n < 0 ∨ 65536 < n.toNatClampNeg)) (ha : h.2.1 = a) (hh : ai_push h (.inl (2, n.toNatClampNeg, .inl (fun _ => 0))) n.toNatClampNeg = h') (kk : Tj G d k P z9 (pc + 2) L (.ref a :: st) h') : Tj G d k P z9 pc L (.int n :: st) h :=
  tx_ex hd rfl (by subst ha; subst hh; simp only [ai_ex, ai_newa, if_neg hn]; rfl) kk
theorem tq_newJ {n : Int32} {a : Nat} {h' : ai_H} (hd : decode (ai_mC k) pc = .ok (.newarray .long, 2)) (hn : ¬ (n < 0 ∨ 65536 < n.toNatClampNeg)) (ha : h.2.1 = a) (hh : ai_push h (.inl (3, n.toNatClampNeg, .inr (.inl (fun _ => 0)))) n.toNatClampNeg = h') (kk : Tj G d k P z9 (pc + 2) L (.ref a :: st) h') : Tj G d k P z9 pc L (.int n :: st) h :=
  tx_ex hd rfl (by subst ha; subst hh; simp only [ai_ex, ai_newa, if_neg hn]; rfl) kk
theorem tq_anew {n : Int32} {i t a : Nat} {h' : ai_H} (hd : decode (ai_mC k) pc = .ok (.anewarray i, 3)) (hc : ai_aT (ai_mO k) i = some t) (hn : ¬ (n < 0 ∨ 65536 < n.toNatClampNeg)) (ha : h.2.1 = a) (hh : ai_push h (.inl (t, n.toNatClampNeg, .inr (.inr (.inr (.inr (fun _ => none)))))) n.toNatClampNeg = h') (kk : Tj G d k P z9 (pc + 3) L (.ref a :: st) h') : Tj G d k P z9 pc L (.int n :: st) h :=
  tx_ex hd rfl (by subst ha; subst hh; simp only [ai_ex, ai_anew, hc, if_neg hn]; rfl) kk
theorem tq_cast {i a c : Nat} {f : Nat → Value} (hd : decode (ai_mC k) pc = .ok (.checkcast i, 3)) (hr : h.1 a = some (.inr (c, f))) (hk : ai_kT (ai_mO k) i c = true) (kk : Tj G d k P z9 (pc + 3) L (.ref a :: st) h) : Tj G d k P z9 pc L (.ref a :: st) h :=
  tx_ex hd rfl (by simp only [ai_ex, ai_cast, hr, hk, if_true]; rfl) kk
theorem tq_aastN {a t n : Nat} {f : Nat → Option Nat} {i : Int32} {h' : ai_H} (hd : decode (ai_mC k) pc = .ok (.aastore, 1)) (hr : h.1 a = some (.inl (t, n, .inr (.inr (.inr (.inr f)))))) (ht : (decide (t = 4) || decide (t = 5)) = true) (hi : ai_inb i n = true) (hh : ai_set h a (.inl (t, n, .inr (.inr (.inr (.inr (va_up f i.toNatClampNeg none)))))) = h') (kk : Tj G d k P z9 (pc + 1) L st h') : Tj G d k P z9 pc L (.null :: .int i :: .ref a :: st) h :=
  tx_ex hd rfl (by subst hh; simp only [ai_ex, ai_asta, hr, ht, hi, Bool.and_self, if_true]; rfl) kk
theorem tq_aast {a t n y : Nat} {f : Nat → Option Nat} {i : Int32} {h' : ai_H} (hd : decode (ai_mC k) pc = .ok (.aastore, 1)) (hr : h.1 a = some (.inl (t, n, .inr (.inr (.inr (.inr f)))))) (ht : ai_elok h t y = true) (hi : ai_inb i n = true) (hh : ai_set h a (.inl (t, n, .inr (.inr (.inr (.inr (va_up f i.toNatClampNeg (some y))))))) = h') (kk : Tj G d k P z9 (pc + 1) L st h') : Tj G d k P z9 pc L (.ref y :: .int i :: .ref a :: st) h :=
  tx_ex hd rfl (by subst hh; simp only [ai_ex, ai_asta, hr, ht, hi, Bool.and_self, if_true]; rfl) kk
theorem tq_ifnullR {x t : Nat} {off : Int} (hd : decode (ai_mC k) pc = .ok (.ifnull off, 3)) (ht : ai_jp pc off = some t) (kk : Tj G d k P z9 (pc + 3) L st h) : Tj G d k P z9 pc L (.ref x :: st) h :=
  tx_ex hd rfl (by simp only [ai_ex, ai_nul, ai_go1, ht, Option.bind_some]; rfl) kk
theorem tq_ifnullN {t : Nat} {off : Int} (hd : decode (ai_mC k) pc = .ok (.ifnull off, 3)) (ht : ai_jp pc off = some t) (kk : Tj G d k P z9 t L st h) : Tj G d k P z9 pc L (.null :: st) h :=
  tx_ex hd rfl (by simp only [ai_ex, ai_nul, ai_go1, ht, Option.bind_some]; rfl) kk
theorem tq_ifnonnullR {x t : Nat} {off : Int} (hd : decode (ai_mC k) pc = .ok (.ifnonnull off, 3)) (ht : ai_jp pc off = some t) (kk : Tj G d k P z9 t L st h) : Tj G d k P z9 pc L (.ref x :: st) h :=
  tx_ex hd rfl (by simp only [ai_ex, ai_nul, ai_go1, ht, Option.bind_some]; rfl) kk
theorem tq_ifnonnullN {t : Nat} {off : Int} (hd : decode (ai_mC k) pc = .ok (.ifnonnull off, 3)) (ht : ai_jp pc off = some t) (kk : Tj G d k P z9 (pc + 3) L st h) : Tj G d k P z9 pc L (.null :: st) h :=
  tx_ex hd rfl (by simp only [ai_ex, ai_nul, ai_go1, ht, Option.bind_some]; rfl) kk
theorem tq_tsw {dft lo hi off : Int} {offs : Array Int} {x : Int32} {t len : Nat} (hd : decode (ai_mC k) pc = .ok (.tableswitch dft lo hi offs, len)) (hx : ai_tsw dft lo hi offs x.toInt = some off) (ht : ai_jp pc off = some t) (kk : Tj G d k P z9 t L st h) : Tj G d k P z9 pc L (.int x :: st) h :=
  tx_ex hd rfl (by simp only [ai_ex, hx, ht, Option.bind_some]; rfl) kk
theorem tq_lsw {dft : Int} {ps : Array (Int × Int)} {x : Int32} {t len : Nat} (hd : decode (ai_mC k) pc = .ok (.lookupswitch dft ps, len)) (hs : (ps.toList.zip (ps.toList.drop 1)).all (fun (a, next) => a.1 < next.1) = true) (ht : ai_jp pc (Op.lookupswitch.offset ps.toList dft x.toInt) = some t) (kk : Tj G d k P z9 t L st h) : Tj G d k P z9 pc L (.int x :: st) h :=
  tx_ex hd rfl (by simp only [ai_ex, hs, if_true, ht, Option.bind_some]; rfl) kk
theorem tq_copyi {t n0 n1 a b : Nat} {f g : Nat → Int32} {sp dp n : Int32} {i : Nat} {h' : ai_H} (hd : decode (ai_mC k) pc = .ok (.invokestatic i, 3)) (hI : ai_cpI (ai_mO k) i = true) (h0 : ¬ (sp < 0 ∨ dp < 0 ∨ n < 0 ∨ 8 < ai_wt st)) (hb : h.1 b = some (.inl (t, n0, .inl f))) (ha : h.1 a = some (.inl (t, n1, .inl g))) (ht : t < 2) (h1 : sp.toNatClampNeg + n.toNatClampNeg ≤ n0) (h2 : dp.toNatClampNeg + n.toNatClampNeg ≤ n1) (hf : (List.range n.toNatClampNeg).all (fun i => ai_fit (ai_ek t) (.int (f (sp.toNatClampNeg + i)))) = true) (hh : ai_set h a (.inl (t, n1, .inl (va_cpy f g sp.toNatClampNeg dp.toNatClampNeg n.toNatClampNeg))) = h') (kk : Tj G d k P z9 (pc + 3) L st h') : Tj G d k P z9 pc L (.int n :: .int dp :: .ref a :: .int sp :: .ref b :: st) h :=
  tx_ex hd rfl (by subst hh; simp only [ai_ex, ai_stat, hI, if_true, ai_copy, if_neg h0, hb, ha, ht, h1, h2, hf, decide_true, Bool.and_self]; rfl) kk
theorem tq_copya {n0 n1 a b : Nat} {f g : Nat → Option Nat} {sp dp n : Int32} {i : Nat} {h' : ai_H} (hd : decode (ai_mC k) pc = .ok (.invokestatic i, 3)) (hI : ai_cpI (ai_mO k) i = true) (h0 : ¬ (sp < 0 ∨ dp < 0 ∨ n < 0 ∨ 8 < ai_wt st)) (hb : h.1 b = some (.inl (4, n0, .inr (.inr (.inr (.inr f)))))) (ha : h.1 a = some (.inl (4, n1, .inr (.inr (.inr (.inr g)))))) (h1 : sp.toNatClampNeg + n.toNatClampNeg ≤ n0) (h2 : dp.toNatClampNeg + n.toNatClampNeg ≤ n1) (hf : ai_cpok h 4 f sp.toNatClampNeg n.toNatClampNeg = true) (hh : ai_set h a (.inl (4, n1, .inr (.inr (.inr (.inr (va_cpy f g sp.toNatClampNeg dp.toNatClampNeg n.toNatClampNeg)))))) = h') (kk : Tj G d k P z9 (pc + 3) L st h') : Tj G d k P z9 pc L (.int n :: .int dp :: .ref a :: .int sp :: .ref b :: st) h :=
  tx_ex hd rfl (by subst hh; simp only [ai_ex, ai_stat, hI, if_true, ai_copy, if_neg h0, hb, ha, h1, h2, hf, decide_true, Bool.and_self]; rfl) kk
theorem tq_max {i : Nat} {x y : Int32} (hd : decode (ai_mC k) pc = .ok (.invokestatic i, 3)) (hc : ai_cpI (ai_mO k) i = false) (hI : ai_mxI (ai_mO k) i = true) (hw : ai_wt st ≤ 8) (kk : Tj G d k P z9 (pc + 3) L (.int (if x < y then y else x) :: st) h) : Tj G d k P z9 pc L (.int y :: .int x :: st) h :=
  tx_ex hd rfl (by simp only [ai_ex, ai_stat, hc, hI, if_true, Bool.false_eq_true, if_false, if_neg (Nat.not_lt.mpr hw)]; rfl) kk
theorem tq_min {i : Nat} {x y : Int32} (hd : decode (ai_mC k) pc = .ok (.invokestatic i, 3)) (hc : ai_cpI (ai_mO k) i = false) (hx : ai_mxI (ai_mO k) i = false) (hI : ai_mnI (ai_mO k) i = true) (hw : ai_wt st ≤ 8) (kk : Tj G d k P z9 (pc + 3) L (.int (if y < x then y else x) :: st) h) : Tj G d k P z9 pc L (.int y :: .int x :: st) h :=
  tx_ex hd rfl (by simp only [ai_ex, ai_stat, hc, hx, hI, if_true, Bool.false_eq_true, if_false, if_neg (Nat.not_lt.mpr hw)]; rfl) kk
theorem tq_abs {i : Nat} {x : Int32} (hd : decode (ai_mC k) pc = .ok (.invokestatic i, 3)) (hc : ai_cpI (ai_mO k) i = false) (hx : ai_mxI (ai_mO k) i = false) (hn : ai_mnI (ai_mO k) i = false) (hI : ai_abI (ai_mO k) i = true) (hw : ai_wt st ≤ 8) (kk : Tj G d k P z9 (pc + 3) L (.int (if 0 ≤ x then x else 0 - x) :: st) h) : Tj G d k P z9 pc L (.int x :: st) h :=
  tx_ex hd rfl (by simp only [ai_ex, ai_stat, hc, hx, hn, hI, if_true, Bool.false_eq_true, if_false, if_neg (Nat.not_lt.mpr hw)]; rfl) kk
theorem tq_getClass {i a n : Nat} {x} (hd : decode (ai_mC k) pc = .ok (.invokevirtual i, 3)) (hI : ai_gcI (ai_mO k) i = true) (hr : h.1 a = some (.inl (4, n, x))) (hw : ai_wt st ≤ 8) (kk : Tj G d k P z9 (pc + 3) L (G.1 ai_kMirror :: st) h) : Tj G d k P z9 pc L (.ref a :: st) h :=
  tx_ex hd rfl (by simp only [ai_ex, ai_virt, hI, if_true, hr, if_neg (Nat.not_lt.mpr hw)]; rfl) kk
theorem tq_objI {i a : Nat} (hd : decode (ai_mC k) pc = .ok (.invokespecial i, 3)) (hI : ai_oI (ai_mO k) i = true) (hw : ai_wt st ≤ 8) (kk : Tj G d k P z9 (pc + 3) L st h) : Tj G d k P z9 pc L (.ref a :: st) h :=
  tx_ex hd rfl (by simp only [ai_ex, ai_spec, hI, if_true, if_neg (Nat.not_lt.mpr hw)]; rfl) kk
theorem tq_wrongI {i a : Nat} {f : Nat → Value} (hd : decode (ai_mC k) pc = .ok (.invokespecial i, 3)) (ho : ai_oI (ai_mO k) i = false) (hI : ai_wI (ai_mO k) i = true) (hr : h.1 a = some (.inr (ai_cWrong, f))) (hw : ai_wt st ≤ 8) (kk : Tj G d k P z9 (pc + 3) L st h) : Tj G d k P z9 pc L (.ref a :: st) h :=
  tx_ex hd rfl (by simp only [ai_ex, ai_spec, ho, hI, if_true, Bool.false_eq_true, if_false, hr, true_and, if_pos (Nat.not_lt.mpr hw)]; rfl) kk
def dv (x y : Int32) : Option Int32 := if y = 0 then none else some (x / y)
def rm (x y : Int32) : Option Int32 := if y = 0 then none else some (x - x / y * y)
theorem tq_idiv {x y : Int32} {r : Int32 → Option α} (hd : decode (ai_mC k) pc = .ok (.idiv, 1)) (kk : ∀ v, Tj G d k P (r v) (pc + 1) L (.int v :: st) h) : Tj G d k P ((dv x y).bind r) pc L (.int y :: .int x :: st) h := by
  refine tx_bind (fun v hv => ?_)
  unfold dv at hv
  by_cases hy : y = 0
  · rw [if_pos hy] at hv; cases hv
  · rw [if_neg hy] at hv; cases hv; exact tx_ex hd rfl (by simp only [ai_ex, ai_id, if_neg hy]; rfl) (kk _)
theorem tq_irem {x y : Int32} {r : Int32 → Option α} (hd : decode (ai_mC k) pc = .ok (.irem, 1)) (kk : ∀ v, Tj G d k P (r v) (pc + 1) L (.int v :: st) h) : Tj G d k P ((rm x y).bind r) pc L (.int y :: .int x :: st) h := by
  refine tx_bind (fun v hv => ?_)
  unfold rm at hv
  by_cases hy : y = 0
  · rw [if_pos hy] at hv; cases hv
  · rw [if_neg hy] at hv; cases hv; exact tx_ex hd rfl (by simp only [ai_ex, ai_id, if_neg hy]; rfl) (kk _)
theorem tq_icmp_eq {u v : Int32} {off : Int} {t : Nat} {z1 z2 : Option α} (hd : decode (ai_mC k) pc = .ok (.if_icmp .eq off, 3)) (ht : ai_jp pc off = some t) (kt : Tj G d k P z1 t L st h) (kf : Tj G d k P z2 (pc + 3) L st h) : Tj G d k P (if u = v then z1 else z2) pc L (.int v :: .int u :: st) h := by
  intro a ha
  by_cases hc : u = v
  · rw [if_pos hc] at ha
    exact tx_ex hd rfl (by simp only [ai_ex, ai_go1, ht, ai_ic, Option.bind_some, decide_eq_true hc, if_true]; rfl) kt a ha
  · rw [if_neg hc] at ha
    exact tx_ex hd rfl (by simp only [ai_ex, ai_go1, ht, ai_ic, Option.bind_some, decide_eq_false hc, Bool.false_eq_true, if_false]; rfl) kf a ha
theorem tq_if_eq {u : Int32} {off : Int} {t : Nat} {z1 z2 : Option α} (hd : decode (ai_mC k) pc = .ok (.ifCond .eq off, 3)) (ht : ai_jp pc off = some t) (kt : Tj G d k P z1 t L st h) (kf : Tj G d k P z2 (pc + 3) L st h) : Tj G d k P (if u = 0 then z1 else z2) pc L (.int u :: st) h := by
  intro a ha
  by_cases hc : u = 0
  · rw [if_pos hc] at ha
    exact tx_ex hd rfl (by simp only [ai_ex, ai_go1, ht, ai_ic, Option.bind_some, decide_eq_true hc, if_true]; rfl) kt a ha
  · rw [if_neg hc] at ha
    exact tx_ex hd rfl (by simp only [ai_ex, ai_go1, ht, ai_ic, Option.bind_some, decide_eq_false hc, Bool.false_eq_true, if_false]; rfl) kf a ha
theorem tq_icmp_ne {u v : Int32} {off : Int} {t : Nat} {z1 z2 : Option α} (hd : decode (ai_mC k) pc = .ok (.if_icmp .ne off, 3)) (ht : ai_jp pc off = some t) (kt : Tj G d k P z1 t L st h) (kf : Tj G d k P z2 (pc + 3) L st h) : Tj G d k P (if u = v then z2 else z1) pc L (.int v :: .int u :: st) h := by
  intro a ha
  by_cases hc : u = v
  · rw [if_pos hc] at ha
    exact tx_ex hd rfl (by simp only [ai_ex, ai_go1, ht, ai_ic, Option.bind_some, decide_eq_false (not_not_intro hc), Bool.false_eq_true, if_false]; rfl) kf a ha
  · rw [if_neg hc] at ha
    exact tx_ex hd rfl (by simp only [ai_ex, ai_go1, ht, ai_ic, Option.bind_some, decide_eq_true hc, if_true]; rfl) kt a ha
theorem tq_if_ne {u : Int32} {off : Int} {t : Nat} {z1 z2 : Option α} (hd : decode (ai_mC k) pc = .ok (.ifCond .ne off, 3)) (ht : ai_jp pc off = some t) (kt : Tj G d k P z1 t L st h) (kf : Tj G d k P z2 (pc + 3) L st h) : Tj G d k P (if u = 0 then z2 else z1) pc L (.int u :: st) h := by
  intro a ha
  by_cases hc : u = 0
  · rw [if_pos hc] at ha
    exact tx_ex hd rfl (by simp only [ai_ex, ai_go1, ht, ai_ic, Option.bind_some, decide_eq_false (not_not_intro hc), Bool.false_eq_true, if_false]; rfl) kf a ha
  · rw [if_neg hc] at ha
    exact tx_ex hd rfl (by simp only [ai_ex, ai_go1, ht, ai_ic, Option.bind_some, decide_eq_true hc, if_true]; rfl) kt a ha
theorem tq_icmp_lt {u v : Int32} {off : Int} {t : Nat} {z1 z2 : Option α} (hd : decode (ai_mC k) pc = .ok (.if_icmp .lt off, 3)) (ht : ai_jp pc off = some t) (kt : Tj G d k P z1 t L st h) (kf : Tj G d k P z2 (pc + 3) L st h) : Tj G d k P (if u < v then z1 else z2) pc L (.int v :: .int u :: st) h := by
  intro a ha
  by_cases hc : u < v
  · rw [if_pos hc] at ha
    exact tx_ex hd rfl (by simp only [ai_ex, ai_go1, ht, ai_ic, Option.bind_some, decide_eq_true hc, if_true]; rfl) kt a ha
  · rw [if_neg hc] at ha
    exact tx_ex hd rfl (by simp only [ai_ex, ai_go1, ht, ai_ic, Option.bind_some, decide_eq_false hc, Bool.false_eq_true, if_false]; rfl) kf a ha
theorem tq_if_lt {u : Int32} {off : Int} {t : Nat} {z1 z2 : Option α} (hd : decode (ai_mC k) pc = .ok (.ifCond .lt off, 3)) (ht : ai_jp pc off = some t) (kt : Tj G d k P z1 t L st h) (kf : Tj G d k P z2 (pc + 3) L st h) : Tj G d k P (if u < 0 then z1 else z2) pc L (.int u :: st) h := by
  intro a ha
  by_cases hc : u < 0
  · rw [if_pos hc] at ha
    exact tx_ex hd rfl (by simp only [ai_ex, ai_go1, ht, ai_ic, Option.bind_some, decide_eq_true hc, if_true]; rfl) kt a ha
  · rw [if_neg hc] at ha
    exact tx_ex hd rfl (by simp only [ai_ex, ai_go1, ht, ai_ic, Option.bind_some, decide_eq_false hc, Bool.false_eq_true, if_false]; rfl) kf a ha
theorem tq_icmp_ge {u v : Int32} {off : Int} {t : Nat} {z1 z2 : Option α} (hd : decode (ai_mC k) pc = .ok (.if_icmp .ge off, 3)) (ht : ai_jp pc off = some t) (kt : Tj G d k P z1 t L st h) (kf : Tj G d k P z2 (pc + 3) L st h) : Tj G d k P (if v ≤ u then z1 else z2) pc L (.int v :: .int u :: st) h := by
  intro a ha
  by_cases hc : v ≤ u
  · rw [if_pos hc] at ha
    exact tx_ex hd rfl (by simp only [ai_ex, ai_go1, ht, ai_ic, Option.bind_some, decide_eq_true hc, if_true]; rfl) kt a ha
  · rw [if_neg hc] at ha
    exact tx_ex hd rfl (by simp only [ai_ex, ai_go1, ht, ai_ic, Option.bind_some, decide_eq_false hc, Bool.false_eq_true, if_false]; rfl) kf a ha
theorem tq_if_ge {u : Int32} {off : Int} {t : Nat} {z1 z2 : Option α} (hd : decode (ai_mC k) pc = .ok (.ifCond .ge off, 3)) (ht : ai_jp pc off = some t) (kt : Tj G d k P z1 t L st h) (kf : Tj G d k P z2 (pc + 3) L st h) : Tj G d k P (if 0 ≤ u then z1 else z2) pc L (.int u :: st) h := by
  intro a ha
  by_cases hc : 0 ≤ u
  · rw [if_pos hc] at ha
    exact tx_ex hd rfl (by simp only [ai_ex, ai_go1, ht, ai_ic, Option.bind_some, decide_eq_true hc, if_true]; rfl) kt a ha
  · rw [if_neg hc] at ha
    exact tx_ex hd rfl (by simp only [ai_ex, ai_go1, ht, ai_ic, Option.bind_some, decide_eq_false hc, Bool.false_eq_true, if_false]; rfl) kf a ha
theorem tq_icmp_gt {u v : Int32} {off : Int} {t : Nat} {z1 z2 : Option α} (hd : decode (ai_mC k) pc = .ok (.if_icmp .gt off, 3)) (ht : ai_jp pc off = some t) (kt : Tj G d k P z1 t L st h) (kf : Tj G d k P z2 (pc + 3) L st h) : Tj G d k P (if v < u then z1 else z2) pc L (.int v :: .int u :: st) h := by
  intro a ha
  by_cases hc : v < u
  · rw [if_pos hc] at ha
    exact tx_ex hd rfl (by simp only [ai_ex, ai_go1, ht, ai_ic, Option.bind_some, decide_eq_true hc, if_true]; rfl) kt a ha
  · rw [if_neg hc] at ha
    exact tx_ex hd rfl (by simp only [ai_ex, ai_go1, ht, ai_ic, Option.bind_some, decide_eq_false hc, Bool.false_eq_true, if_false]; rfl) kf a ha
theorem tq_if_gt {u : Int32} {off : Int} {t : Nat} {z1 z2 : Option α} (hd : decode (ai_mC k) pc = .ok (.ifCond .gt off, 3)) (ht : ai_jp pc off = some t) (kt : Tj G d k P z1 t L st h) (kf : Tj G d k P z2 (pc + 3) L st h) : Tj G d k P (if 0 < u then z1 else z2) pc L (.int u :: st) h := by
  intro a ha
  by_cases hc : 0 < u
  · rw [if_pos hc] at ha
    exact tx_ex hd rfl (by simp only [ai_ex, ai_go1, ht, ai_ic, Option.bind_some, decide_eq_true hc, if_true]; rfl) kt a ha
  · rw [if_neg hc] at ha
    exact tx_ex hd rfl (by simp only [ai_ex, ai_go1, ht, ai_ic, Option.bind_some, decide_eq_false hc, Bool.false_eq_true, if_false]; rfl) kf a ha
theorem tq_icmp_le {u v : Int32} {off : Int} {t : Nat} {z1 z2 : Option α} (hd : decode (ai_mC k) pc = .ok (.if_icmp .le off, 3)) (ht : ai_jp pc off = some t) (kt : Tj G d k P z1 t L st h) (kf : Tj G d k P z2 (pc + 3) L st h) : Tj G d k P (if u ≤ v then z1 else z2) pc L (.int v :: .int u :: st) h := by
  intro a ha
  by_cases hc : u ≤ v
  · rw [if_pos hc] at ha
    exact tx_ex hd rfl (by simp only [ai_ex, ai_go1, ht, ai_ic, Option.bind_some, decide_eq_true hc, if_true]; rfl) kt a ha
  · rw [if_neg hc] at ha
    exact tx_ex hd rfl (by simp only [ai_ex, ai_go1, ht, ai_ic, Option.bind_some, decide_eq_false hc, Bool.false_eq_true, if_false]; rfl) kf a ha
theorem tq_if_le {u : Int32} {off : Int} {t : Nat} {z1 z2 : Option α} (hd : decode (ai_mC k) pc = .ok (.ifCond .le off, 3)) (ht : ai_jp pc off = some t) (kt : Tj G d k P z1 t L st h) (kf : Tj G d k P z2 (pc + 3) L st h) : Tj G d k P (if u ≤ 0 then z1 else z2) pc L (.int u :: st) h := by
  intro a ha
  by_cases hc : u ≤ 0
  · rw [if_pos hc] at ha
    exact tx_ex hd rfl (by simp only [ai_ex, ai_go1, ht, ai_ic, Option.bind_some, decide_eq_true hc, if_true]; rfl) kt a ha
  · rw [if_neg hc] at ha
    exact tx_ex hd rfl (by simp only [ai_ex, ai_go1, ht, ai_ic, Option.bind_some, decide_eq_false hc, Bool.false_eq_true, if_false]; rfl) kf a ha
theorem tq_acmp_eq {u v : Nat} {off : Int} {t : Nat} {z1 z2 : Option α} (hd : decode (ai_mC k) pc = .ok (.if_acmp .eq off, 3)) (ht : ai_jp pc off = some t) (kt : Tj G d k P z1 t L st h) (kf : Tj G d k P z2 (pc + 3) L st h) : Tj G d k P (if u = v then z1 else z2) pc L (.ref v :: .ref u :: st) h := by
  intro a ha
  by_cases hc : u = v
  · rw [if_pos hc] at ha
    exact tx_ex hd rfl (by simp only [ai_ex, ai_acmp, ai_go1, ht, Option.bind_some, decide_eq_true hc, if_true]; rfl) kt a ha
  · rw [if_neg hc] at ha
    exact tx_ex hd rfl (by simp only [ai_ex, ai_acmp, ai_go1, ht, Option.bind_some, decide_eq_false hc, Bool.false_eq_true, if_false]; rfl) kf a ha
theorem tq_acmp_ne {u v : Nat} {off : Int} {t : Nat} {z1 z2 : Option α} (hd : decode (ai_mC k) pc = .ok (.if_acmp .ne off, 3)) (ht : ai_jp pc off = some t) (kt : Tj G d k P z1 t L st h) (kf : Tj G d k P z2 (pc + 3) L st h) : Tj G d k P (if u = v then z2 else z1) pc L (.ref v :: .ref u :: st) h := by
  intro a ha
  by_cases hc : u = v
  · rw [if_pos hc] at ha
    exact tx_ex hd rfl (by simp only [ai_ex, ai_acmp, ai_go1, ht, Option.bind_some, decide_eq_false (not_not_intro hc), Bool.false_eq_true, if_false]; rfl) kf a ha
  · rw [if_neg hc] at ha
    exact tx_ex hd rfl (by simp only [ai_ex, ai_acmp, ai_go1, ht, Option.bind_some, decide_eq_true hc, if_true]; rfl) kt a ha
theorem tq_ifnull {u : Option Nat} {off : Int} {t : Nat} {z1 z2 : Option α} (hd : decode (ai_mC k) pc = .ok (.ifnull off, 3)) (ht : ai_jp pc off = some t) (kt : Tj G d k P z1 t L st h) (kf : Tj G d k P z2 (pc + 3) L st h) : Tj G d k P (if u = none then z1 else z2) pc L (va_rf u :: st) h := by
  intro a ha
  cases u with
  | none =>
    rw [if_pos rfl] at ha
    exact tx_ex hd rfl (by simp only [ai_ex, va_rf, ai_nul, ai_go1, ht, Option.bind_some]; rfl) kt a ha
  | some q =>
    rw [if_neg (by simp)] at ha
    exact tx_ex hd rfl (by simp only [ai_ex, va_rf, ai_nul, ai_go1, ht, Option.bind_some]; rfl) kf a ha
theorem tq_ifnonnull {u : Option Nat} {off : Int} {t : Nat} {z1 z2 : Option α} (hd : decode (ai_mC k) pc = .ok (.ifnonnull off, 3)) (ht : ai_jp pc off = some t) (kt : Tj G d k P z1 t L st h) (kf : Tj G d k P z2 (pc + 3) L st h) : Tj G d k P (if u = none then z2 else z1) pc L (va_rf u :: st) h := by
  intro a ha
  cases u with
  | none =>
    rw [if_pos rfl] at ha
    exact tx_ex hd rfl (by simp only [ai_ex, va_rf, ai_nul, ai_go1, ht, Option.bind_some]; rfl) kf a ha
  | some q =>
    rw [if_neg (by simp)] at ha
    exact tx_ex hd rfl (by simp only [ai_ex, va_rf, ai_nul, ai_go1, ht, Option.bind_some]; rfl) kt a ha
/-- a switch is decided case by case, then walked -/
theorem tq_case {c : Prop} [Decidable c] {z1 z2 : Option α} (kt : c → Tj G d k P z1 pc L st h) (kf : ¬ c → Tj G d k P z2 pc L st h) : Tj G d k P (if c then z1 else z2) pc L st h := by
  intro a ha
  by_cases hc : c
  · rw [if_pos hc] at ha; exact kt hc a ha
  · rw [if_neg hc] at ha; exact kf hc a ha
theorem tq_ireturn {v : Int32} {a : α} (hd : decode (ai_mC k) pc = .ok (.ireturn, 1)) (hr : ai_rok (ai_mR k) (.int v) = true) (hq : P a (some (.inl (some (.int v)), h))) : Tj G d k P (some a) pc L [.int v] h :=
  tx_end hd rfl (by simp only [ai_ex, hr, if_true]; rfl) (fun b hb => by cases hb; exact hq)
/-- a boolean is answered: nought or one -/
theorem tq_iretB {v : Int32} {z : Option α} {a : α} (hd : decode (ai_mC k) pc = .ok (.ireturn, 1)) (hr : ai_mR k = some .boolean) (hz : z = if v = 0 ∨ v = 1 then some a else none) (hq : P a (some (.inl (some (.int v)), h))) : Tj G d k P z pc L [.int v] h := by
  subst hz
  refine tq_gd (fun c => tx_end hd rfl ?_ (fun b hb => by cases hb; exact hq))
  have : ai_rok (ai_mR k) (.int v) = true := by rw [hr]; simp [ai_rok, ai_fit, c]
  simp only [ai_ex, this, if_true]
  rfl
theorem tq_lreturn {v : Int64} {a : α} (hd : decode (ai_mC k) pc = .ok (.lreturn, 1)) (hr : ai_mR k = some .long) (hq : P a (some (.inl (some (.long v)), h))) : Tj G d k P (some a) pc L [.long v] h :=
  tx_end hd rfl (by simp only [ai_ex, hr, if_true]; rfl) (fun b hb => by cases hb; exact hq)
theorem tq_areturn {v : Value} {a : α} (hd : decode (ai_mC k) pc = .ok (.areturn, 1)) (hr : ai_rok (ai_mR k) v = true) (hv : v.isRef = true) (hq : P a (some (.inl (some v), h))) : Tj G d k P (some a) pc L [v] h :=
  tx_end hd rfl (by simp only [ai_ex, hr, hv, and_self, if_true]; rfl) (fun b hb => by cases hb; exact hq)
theorem tq_return {a : α} (hd : decode (ai_mC k) pc = .ok (.return_, 1)) (hr : ai_mR k = none) (hq : P a (some (.inl none, h))) : Tj G d k P (some a) pc L [] h :=
  tx_end hd rfl (by simp only [ai_ex, hr, if_true]; rfl) (fun b hb => by cases hb; exact hq)
theorem x_callS {i id n : Nat} (as rest : List Value) (hst : as.reverse ++ rest = st) (hg : (ai_cpI (ai_mO k) i || ai_mxI (ai_mO k) i || ai_mnI (ai_mO k) i || ai_abI (ai_mO k) i) = false) (hn : ai_aN (ai_mO k) i = some n) (hl : as.length = n) (hw : ai_wt rest ≤ 8) (hT : ai_cT 0 (ai_mO k) i 0 = some id) : ai_ex G k (.invokestatic i) pc L st h = some (.inr (.inl (id, as, pc + 3, rest))) := by
  subst hst
  simp only [Bool.or_eq_false_iff] at hg
  obtain ⟨⟨⟨g1, g2⟩, g3⟩, g4⟩ := hg
  simp only [ai_ex, ai_stat, g1, g2, g3, g4, Bool.false_eq_true, if_false]
  exact k_inv hn hl hw (by simp) hT
theorem x_callC {i a id n : Nat} (tl rest : List Value) (hst : (Value.ref a :: tl).reverse ++ rest = st) (hg : (ai_oI (ai_mO k) i || ai_wI (ai_mO k) i) = false) (hn : ai_aN (ai_mO k) i = some n) (hl : tl.length + 1 = n) (hw : ai_wt rest ≤ 8) (hT : ai_cT 1 (ai_mO k) i 0 = some id) : ai_ex G k (.invokespecial i) pc L st h = some (.inr (.inl (id, .ref a :: tl, pc + 3, rest))) := by
  subst hst
  simp only [Bool.or_eq_false_iff] at hg
  simp only [ai_ex, ai_spec, hg.1, hg.2, Bool.false_eq_true, if_false]
  exact k_inv hn hl hw (by simp [ai_rc1]) hT
theorem x_callI {i n9 a cI id n : Nat} {f : Nat → Value} (tl rest : List Value) (hst : (Value.ref a :: tl).reverse ++ rest = st) (hr : ai_rd G h a = some (.inr (cI, f))) (hn : ai_aN (ai_mO k) i = some n) (hl : tl.length + 1 = n) (hw : ai_wt rest ≤ 8) (hT : ai_cT 3 (ai_mO k) i cI = some id) : ai_ex G k (.invokeinterface i n9) pc L st h = some (.inr (.inl (id, .ref a :: tl, pc + 5, rest))) := by
  subst hst
  simp only [ai_ex]
  exact k_inv hn hl hw (by simp [ai_rc, hr]) hT
end TT
/-- what a method's end is to be: readers (the heap as it was) and writers of the model -/
abbrev Pi (h : ai_H) : Int32 → Option ai_R → Prop := fun r run => run = some (.inl (some (.int r)), h)
abbrev Pu (h : ai_H) : Unit → Option ai_R → Prop := fun _ run => run = some (.inl none, h)
abbrev PmI (M : Nat) (h0 : ai_H) : Int32 × mS → Option ai_R → Prop := fun r run => run = some (.inl (some (.int r.1)), mH M r.2 h0)
abbrev PmV (M : Nat) (h0 : ai_H) : mS → Option ai_R → Prop := fun r run => run = some (.inl none, mH M r h0)

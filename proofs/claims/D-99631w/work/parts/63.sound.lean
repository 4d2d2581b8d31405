/-! SOUNDNESS OF ALL METHODS -/
set_option maxRecDepth 100000
def ai_slf (o : Option Value) : Slot := match o with
  | some v => .val v
  | none => .second
theorem ai_sl_map : ∀ vs : List Value, lg_sl vs = (ai_sl vs).map ai_slf := by
  intro vs
  induction vs with
  | nil => rfl
  | cons v t ih =>
    have e : lg_sl (v :: t) = (if v.category = 2 then [.val v, .second] else [.val v]) ++ lg_sl t := rfl
    rw [e, ih]
    cases v <;> rfl
theorem ai_sl_len (vs : List Value) : (lg_sl vs).length = (ai_sl vs).length := by rw [ai_sl_map]; simp
theorem ai_en_len {id : Nat} {vs : List Value} (h : (ai_sl vs).length ≤ ai_mL id) : (ai_en id vs).length = ai_mL id := by
  unfold ai_en
  simp
  omega
theorem ai_en_lv {id : Nat} {vs : List Value} (h : (ai_sl vs).length ≤ ai_mL id) : ai_lv (ai_en id vs) ((lg_sl vs ++ List.replicate (ai_mL id - (lg_sl vs).length) Slot.unset).toArray) := by
  have h0 := lv_entry vs (n := ai_mL id) (by rw [ai_sl_len]; exact h)
  refine ⟨h0.1.trans (ai_en_len h).symm, h0.2.1, fun i v hi => ?_⟩
  unfold ai_en at hi
  by_cases hl : i < (ai_sl vs).length
  · rw [List.getElem?_append_left hl] at hi
    have : (lg_sl vs)[i]? = some (.val v) := by rw [ai_sl_map, List.getElem?_map, hi]; rfl
    simp only [List.getElem?_toArray]
    rw [List.getElem?_append_left (by rw [ai_sl_len]; exact hl)]
    exact this
  · rw [List.getElem?_append_right (by omega)] at hi
    rw [List.getElem?_replicate] at hi
    split at hi <;> cases hi
section AIN
variable {p : Program} {l : Launch} {e : Env} {R : Room} {s : State} {m : MethodId} {args : Array Value} {below : List Frame} {meth : Method} {c : Code} {H : Heap} {locs : List Loc}
variable {G : ai_G} {D : va_G} {dA : Nat → ClassId} {B : Nat} {H0 : Heap} {k : Nat}
def ai_isRet (i : Instr) : Bool := match i with
  | .ireturn => true
  | .lreturn => true
  | .areturn => true
  | .return_ => true
  | _ => false
def ai_nrP (o : Option ai_S) : Prop := ∀ v h, o ≠ some (.inr (.inr (.inl v, h)))
theorem nr_none : ai_nrP none := fun v h e => by cases e
theorem nr_nx {pc : Nat} {L : ai_L} {st : List Value} {h : ai_H} : ai_nrP (ai_nx pc L st h) := fun v h e => by cases e
theorem nr_thr {q : Nat} {h : ai_H} : ai_nrP (some (.inr (.inr (.inr q, h)))) := fun v h e => by cases e
theorem nr_bind {α : Type} {o : Option α} {f : α → Option ai_S} (hf : ∀ t, ai_nrP (f t)) : ai_nrP (o.bind f) := by
  cases o with
  | none => exact nr_none
  | some t => exact hf t
theorem nr_inv {o i kd n pc : Nat} {L : ai_L} {st : List Value} {h : ai_H} : ai_nrP (ai_inv G o i kd n pc L st h) := fun _ _ => ai_inv_nr
set_option maxHeartbeats 4000000 in
theorem ai_ex_nr (i : Instr) (hi : ai_isRet i = false) {pc : Nat} {L : ai_L} {st : List Value} {h : ai_H} : ai_nrP (ai_ex G k i pc L st h) := by
  cases i <;> first | (simp [ai_isRet] at hi; done) | (simp only [ai_ex, ai_lda, ai_ldi, ai_ldl, ai_sta, ai_sti, ai_stl, ai_iinc, ai_ib, ai_id, ai_iu, ai_acmp, ai_nul, ai_go1, ai_pushv, ai_aldi, ai_aldl, ai_alda, ai_asti, ai_astl, ai_asta, ai_alen, ai_getf, ai_putf, ai_new, ai_newa, ai_anew, ai_cast, ai_spec, ai_stat, ai_virt, ai_copy] <;> repeat' (first | exact nr_none | exact nr_nx | exact nr_thr | exact nr_inv | (refine nr_bind fun _ => ?_) | split))
theorem ai_ex_nret {i : Instr} (hi : ai_isRet i = false) {pc : Nat} {L : ai_L} {st : List Value} {h : ai_H} {v : Option Value} (he : ai_ex G k i pc L st h = some (.inr (.inr (.inl v, h)))) : False := ai_ex_nr i hi v h he
/-- the ends of a method that returns -/
theorem ai_ex_ret {i : Instr} {len pc : Nat} {L : ai_L} {st : List Value} {h : ai_H} {v : Option Value} (hlk : ai_lok i len = true) (he : ai_ex G k i pc L st h = some (.inr (.inr (.inl v, h)))) :
    len = 1 ∧ ((∃ x, v = some (.int x) ∧ st = [.int x] ∧ i = .ireturn ∧ ai_rok (ai_mR k) (.int x) = true) ∨ (∃ x, v = some (.long x) ∧ st = [.long x] ∧ i = .lreturn ∧ ai_mR k = some .long) ∨ (∃ w, v = some w ∧ st = [w] ∧ i = .areturn ∧ ai_rok (ai_mR k) w = true ∧ w.isRef = true) ∨ (v = none ∧ st = [] ∧ i = .return_ ∧ ai_mR k = none)) := by
  by_cases hi : ai_isRet i = false
  · exact (ai_ex_nret hi he).elim
  cases i <;> first | (exact absurd rfl hi) | skip
  all_goals obtain rfl : len = 1 := by simpa [ai_lok] using hlk
  case ireturn =>
    simp only [ai_ex] at he
    split at he
    · split at he
      · rename_i hr
        simp only [ai_ret, Option.some.injEq, Sum.inr.injEq, Prod.mk.injEq, Sum.inl.injEq, and_true] at he
        exact ⟨rfl, Or.inl ⟨_, he.symm, rfl, rfl, hr⟩⟩
      · cases he
    · cases he
  case lreturn =>
    simp only [ai_ex] at he
    split at he
    · split at he
      · rename_i hr
        simp only [ai_ret, Option.some.injEq, Sum.inr.injEq, Prod.mk.injEq, Sum.inl.injEq, and_true] at he
        exact ⟨rfl, Or.inr (Or.inl ⟨_, he.symm, rfl, rfl, hr⟩)⟩
      · cases he
    · cases he
  case areturn =>
    simp only [ai_ex] at he
    split at he
    · split at he
      · rename_i hr
        simp only [ai_ret, Option.some.injEq, Sum.inr.injEq, Prod.mk.injEq, Sum.inl.injEq, and_true] at he
        exact ⟨rfl, Or.inr (Or.inr (Or.inl ⟨_, he.symm, rfl, rfl, hr.1, hr.2⟩))⟩
      · cases he
    · cases he
  case return_ =>
    simp only [ai_ex] at he
    split at he
    · split at he
      · rename_i hr
        simp only [ai_ret, Option.some.injEq, Sum.inr.injEq, Prod.mk.injEq, Sum.inl.injEq, and_true] at he
        exact ⟨rfl, Or.inr (Or.inr (Or.inr ⟨he.symm, rfl, rfl, hr⟩))⟩
      · cases he
    · cases he
theorem ai_retW {Qc : Array Value → State → Outcome → State → Prop} {XC : Addr → String → State → State → Prop} {free : Addr → Prop} {i : Instr} {len pc cells slots : Nat} {L : ai_L} {ls : Array Slot} {st : List Value} {h : ai_H} {v : Option Value} (X : ai_X G D dA B H0 p s m args meth c k) (hd : decode (ai_mC k) pc = .ok (i, len)) (hlk : ai_lok i len = true) (he : ai_ex G k i pc L st h = some (.inr (.inr (.inl v, h))))
    (hq : ∀ t : State, t.heap = H → s.WarmedH t.vm → Qc args s (.returned v) t) (hf : ∀ q ∈ locs, free q.base) : W p l e R s m args below meth c H locs cells slots (ai_MQ below Qc XC args s cells slots free) (F0 m pc ls st) := by
  obtain ⟨hx, hb, hml, hown, hts, hK, hret, hlocks, hini⟩ := X
  obtain ⟨rfl, h1 | h1 | h1 | h1⟩ := ai_ex_ret hlk he
  · obtain ⟨x, rfl, rfl, rfl, hr⟩ := h1
    unfold ai_rok at hr
    split at hr
    · cases hr
    · rename_i ty hty
      exact ai_ret9 (W.zret hx hb (hret.trans hty) (ai_fit_ok hr).1 hq hf hd hlocks)
  · obtain ⟨x, rfl, rfl, rfl, hr⟩ := h1
    exact ai_ret9 (W.lret hx hb (hret.trans hr) hq hf hd hlocks)
  · obtain ⟨w, rfl, rfl, rfl, hr, hw⟩ := h1
    unfold ai_rok at hr
    split at hr
    · cases hr
    · rename_i ty hty
      have hv : w = .null ∨ ∃ a, w = .ref a := by
        cases w with
        | null => exact Or.inl rfl
        | ref a => exact Or.inr ⟨a, rfl⟩
        | int x => cases hw
        | long x => cases hw
        | float x => cases hw
        | double x => cases hw
        | retAddr x => cases hw
      have hrt : (∃ n, ty = .object n) ∨ ∃ t, ty = .array t := by
        cases ty with
        | object n => exact Or.inl ⟨n, rfl⟩
        | array t => exact Or.inr ⟨t, rfl⟩
        | _ => rcases hv with rfl | ⟨a, rfl⟩ <;> simp [ai_fit] at hr
      exact ai_ret9 (W.aret hx hb (hret.trans hty) hrt hv hq hf hd hlocks)
  · obtain ⟨rfl, rfl, rfl, hr⟩ := h1
    exact ai_ret9 (W.vret hx hb (hret.trans hr) hq hf hd hlocks)
end AIN
set_option maxHeartbeats 4000000 in
theorem ai_sound {l : Launch} {G : ai_G} {D : va_G} {dA : Nat → ClassId} {B : Nat} {H0 : Heap} (hWI : ai_WI l G D dA B H0) : ∀ d, ai_Sound l G D dA B H0 d := by
  have key : ∀ d, (∀ d', d = d' + 1 → ai_Sound l G D dA B H0 d') → ai_Sound l G D dA B H0 d := by
    intro d IH id as h res h' i0 i1 hcall hthr1
    have hcall : (if (ai_sl as).length ≤ ai_mL id then ai_fix (fun n => ai_go G (ai_call G d) n id 0 (ai_en id as) [] h) else none) = some (res, h') := hcall
    split at hcall
    · rename_i hlen
      obtain ⟨n, hn⟩ := ai_fix_get hcall
      have hmono := ai_go_mn (fun id as h r h' e => ai_call_mn G d id as h r h' e) _ _ _ _ _ _ _ _ hn
      obtain ⟨hpl, hcn, -⟩ := ai_mk id i0 i1
      have body : ∀ (p : Program) (e : Env) (s : State) (m : MethodId) (args : Array Value) (below : List Frame) (meth : Method) (c : Code) (s₁ : State), BodyLoose p l (ai_mY id) (headSpec (ai_wsk id) (ai_rm d (h'.2.1 - h.2.1) (h'.2.2 - h.2.2))) (ai_mC id) (ai_mL id) (ai_mR id) e s m args below meth c s₁ → c.maxLocals = ai_mL id → c.exceptionTable.toList = tableOf (ai_mH id) → ai_Pc G D dA B H0 as h args s →
          W p l e (headSpec (ai_wsk id) (ai_rm d (h'.2.1 - h.2.1) (h'.2.2 - h.2.2))).room s m args below meth c s.heap [] 0 0 (ai_MQ below (ai_Qc G D dA B H0 res h') (ai_XC G D dA B H0 res h') args s (h'.2.1 - h.2.1) (h'.2.2 - h.2.2) (ai_A B)) (entryFrame m args (ai_mL id)) := by
        intro p e s m args below meth c s₁ Bd hml htab hv
        obtain ⟨rfl, hK, hrel⟩ := hv
        have hts0 := atoms_spec (ws := ai_wsk id) Bd.pre
        have hts : ∀ w ∈ lw_all, w.before as.toArray s = true := by
          intro w hw
          refine hts0 w ?_
          unfold ai_wsk
          split
          · exact List.mem_cons_of_mem _ hw
          · exact List.mem_cons_of_mem _ hw
        have hown : s.vm.findClass (ai_cn (ai_mO id)) = some m.cls := by
          have := findClass_of_methodNamed Bd.named
          rw [show ai_cn (ai_mO id) = (ai_mY id).cls from hcn]
          exact this
        have X : ai_X G D dA B H0 p s m as.toArray meth c id := ⟨Bd.exec, Bd.bytes, hml, hown, hts, hK, Bd.returns, Bd.notSynchronized, fun hI => by
          rw [(name_of_methodNamed Bd.named Bd.method).1]
          exact of_decide_eq_true hI⟩
        rw [lg_entry_eq]
        have hW := ai_gs (e := e) (R := (headSpec (ai_wsk id) (ai_rm d (h'.2.1 - h.2.1) (h'.2.2 - h.2.2))).room) (below := below) (Q := ai_MQ below (ai_Qc G D dA B H0 res h') (ai_XC G D dA B H0 res h') as.toArray s (h'.2.1 - h.2.1) (h'.2.2 - h.2.2) (ai_A B)) d i1 hWI IH X htab (res := res) (hf := h') (n0 := h.2.1) (u0 := h.2.2) (Nat.le_refl _) (Nat.le_refl _) (Nat.le_refl _) (Nat.le_refl _)
          (fun pc L ls st i len H' locs' hd hlk hex hv hr hlo => by
            obtain ⟨v, rfl⟩ := hv
            exact ai_retW X hd hlk hex (fun t ht hW => ⟨v, rfl, rfl, by rw [ht]; exact hr⟩) hlo)
          (fun pc q ls rest ce H' locs' hres hcov hr hlo hce hcv hcl => by
            subst hres
            exact ai_out hcov Bd.notSynchronized hce hcv hcl (fun t ht _ => ⟨rfl, rfl, by rw [ht]; exact hr⟩) hlo (Nat.le_refl _) (Nat.le_refl _))
          n 0 (ai_en id as) _ [] h s.heap [] hn (ai_en_lv hlen) (ai_en_len hlen) hrel (fun z hz => by cases hz) (Nat.le_refl _) (Nat.le_refl _)
        rw [Nat.sub_self, Nat.sub_self] at hW
        exact hW
      by_cases hH : ai_mH id = []
      · have hws : ai_wsk id = Cond.code (ai_mY id) (ai_mC id) (ai_mL id) (ai_mR id) :: lw_all := if_pos hH
        refine ai_ofW (cc := ai_mC id) (maxL := ai_mL id) (ret := ai_mR id) hpl hws (fun p e s m args below meth c s₁ Bd hml hno hv => body p e s m args below meth c s₁ Bd hml ?_ hv)
        rw [hH]
        show _ = []
        cases hc : c.exceptionTable.toList with
        | nil => rfl
        | cons x t => exact (hno x (by rw [hc]; exact List.mem_cons_self)).elim
      · have hws : ai_wsk id = Cond.codeWith (ai_mY id) (ai_mC id) (ai_mL id) (ai_mR id) (ai_mH id) :: lw_all := if_neg hH
        refine ai_ofWH (cc := ai_mC id) (maxL := ai_mL id) (ret := ai_mR id) (hh := ai_mH id) hpl hws (fun p e s m args below meth c s₁ Bd hml hv => body p e s m args below meth c s₁ Bd hml ?_ hv)
        exact vx_table (x := ai_mY id) Bd (atoms_spec (ws := ai_wsk id) Bd.pre _ (by rw [hws]; exact List.mem_cons_self))
    · cases hcall
  intro d
  induction d with
  | zero => exact key 0 (fun d' e => by cases e)
  | succ d ih => exact key (d + 1) (fun d' e => by cases e; exact ih)

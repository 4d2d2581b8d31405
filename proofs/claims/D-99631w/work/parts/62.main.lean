/-! THE MAIN INDUCTION: what the interpreter answers, the machine answers -/
set_option maxRecDepth 100000
def ai_rm (d mc ms : Nat) : Room := { frames := d + 9, cells := mc, slots := ms, locals := 300 + 64 * d }
def ai_wN : String := "BoardCrossing$Wrong"
def ai_Qc (G : ai_G) (D : va_G) (dA : Nat → ClassId) (B : Nat) (H0 : Heap) (res : Option Value ⊕ Nat) (h' : ai_H) : Array Value → State → Outcome → State → Prop := fun _ _ o t => ∃ v, res = .inl v ∧ o = .returned v ∧ ai_rel G D dA B H0 h' t.heap
def ai_XC (G : ai_G) (D : va_G) (dA : Nat → ClassId) (B : Nat) (H0 : Heap) (res : Option Value ⊕ Nat) (h' : ai_H) : Addr → String → State → State → Prop := fun q E _ t => res = .inr q ∧ E = ai_wN ∧ ai_rel G D dA B H0 h' t.heap
def ai_Sound (l : Launch) (G : ai_G) (D : va_G) (dA : Nat → ClassId) (B : Nat) (H0 : Heap) (d : Nat) : Prop := ∀ (id : Nat) (as : List Value) (h : ai_H) (res : Option Value ⊕ Nat) (h' : ai_H), 0 < id → id < ai_nm → ai_call G (d + 1) id as h = some (res, h') → (ai_thr id = true ∨ ∃ v, res = .inl v) →
  ai_Met l (ai_mY id) (ai_wsk id) (ai_rm d (h'.2.1 - h.2.1) (h'.2.2 - h.2.2)) (ai_Pc G D dA B H0 as h) (ai_Qc G D dA B H0 res h') (ai_XC G D dA B H0 res h') (h'.2.1 - h.2.1) (h'.2.2 - h.2.2) (ai_A B)
theorem ai_mL45 (k : Nat) (hk : k < ai_nm) : ai_mL k ≤ 45 := by
  have h : ∀ k, k < ai_nm → ai_mL k ≤ 45 := by decide +kernel
  exact h k hk
section AIMM
variable {p : Program} {l : Launch} {e : Env} {R : Room} {s : State} {m : MethodId} {args : Array Value} {below : List Frame} {meth : Method} {c : Code} {Q : State → Prop}
variable {G : ai_G} {D : va_G} {dA : Nat → ClassId} {B : Nat} {H0 : Heap} {k : Nat}
def ai_lnP (n : Nat) (o : Option ai_S) : Prop := ∀ x, o = some (.inl x) → x.2.1.length = n
theorem ln_none {n : Nat} : ai_lnP n none := fun x e => by cases e
theorem ln_nx {pc n : Nat} {L : ai_L} {st : List Value} {h : ai_H} (hL : L.length = n) : ai_lnP n (ai_nx pc L st h) := fun x e => by cases e; exact hL
theorem ln_inr {n : Nat} {x : (Nat × List Value × Nat × List Value) ⊕ ai_R} : ai_lnP n (some (.inr x)) := fun x e => by cases e
theorem ln_bind {α : Type} {n : Nat} {o : Option α} {f : α → Option ai_S} (hf : ∀ t, ai_lnP n (f t)) : ai_lnP n (o.bind f) := by
  cases o with
  | none => exact ln_none
  | some t => exact hf t
theorem ln_inv {o i kd n pc n9 : Nat} {L : ai_L} {st : List Value} {h : ai_H} : ai_lnP n9 (ai_inv G o i kd n pc L st h) := by
  unfold ai_inv
  repeat' (first | exact ln_none | exact ln_inr | split)
set_option maxHeartbeats 4000000 in
theorem ai_ex_ln (i : Instr) {pc : Nat} {L : ai_L} {st : List Value} {h : ai_H} : ai_lnP L.length (ai_ex G k i pc L st h) := by
  cases i <;> simp only [ai_ex, ai_lda, ai_ldi, ai_ldl, ai_sta, ai_sti, ai_stl, ai_iinc, ai_ib, ai_id, ai_iu, ai_acmp, ai_nul, ai_go1, ai_pushv, ai_aldi, ai_aldl, ai_alda, ai_asti, ai_astl, ai_asta, ai_alen, ai_getf, ai_putf, ai_new, ai_newa, ai_anew, ai_cast, ai_spec, ai_stat, ai_virt, ai_copy, ai_ret] <;> repeat' (first | exact ln_none | exact ln_nx rfl | exact ln_nx (ai_st1_len _ _ _) | exact ln_nx (ai_st2_len _ _ _) | exact ln_inv | exact ln_inr | (refine ln_bind fun _ => ?_) | split)
theorem ai_ex_len {i : Instr} {pc pc' : Nat} {L L' : ai_L} {st st' : List Value} {h h' : ai_H} (he : ai_ex G k i pc L st h = some (.inl (pc', L', st', h'))) : L'.length = L.length := ai_ex_ln i _ he
/-- neither a call nor a throw -/
def ai_ncP (o : Option ai_S) : Prop := ∀ x, o = some (.inr x) → ∃ v h, x = .inr (.inl v, h)
theorem nc_none : ai_ncP none := fun x e => by cases e
theorem nc_nx {pc : Nat} {L : ai_L} {st : List Value} {h : ai_H} : ai_ncP (ai_nx pc L st h) := fun x e => by cases e
theorem nc_ret {v : Option Value} {h : ai_H} : ai_ncP (some (.inr (.inr (.inl v, h)))) := fun x e => by cases e; exact ⟨_, _, rfl⟩
theorem nc_bind {α : Type} {o : Option α} {f : α → Option ai_S} (hf : ∀ t, ai_ncP (f t)) : ai_ncP (o.bind f) := by
  cases o with
  | none => exact nc_none
  | some t => exact hf t
def ai_isInv (i : Instr) : Bool := match i with
  | .invokestatic _ => true
  | .invokespecial _ => true
  | .invokevirtual _ => true
  | .invokeinterface _ _ => true
  | .athrow => true
  | _ => false
set_option maxHeartbeats 4000000 in
theorem ai_ex_nc (i : Instr) (hi : ai_isInv i = false) {pc : Nat} {L : ai_L} {st : List Value} {h : ai_H} : ai_ncP (ai_ex G k i pc L st h) := by
  cases i <;> first | (simp [ai_isInv] at hi; done) | (simp only [ai_ex, ai_lda, ai_ldi, ai_ldl, ai_sta, ai_sti, ai_stl, ai_iinc, ai_ib, ai_id, ai_iu, ai_acmp, ai_nul, ai_go1, ai_pushv, ai_aldi, ai_aldl, ai_alda, ai_asti, ai_astl, ai_asta, ai_alen, ai_getf, ai_putf, ai_new, ai_newa, ai_anew, ai_cast, ai_copy, ai_ret] <;> repeat' (first | exact nc_none | exact nc_nx | exact nc_ret | (refine nc_bind fun _ => ?_) | split))
theorem nc_copy {pc : Nat} {L : ai_L} {st : List Value} {h : ai_H} : ai_ncP (ai_copy G pc L st h) := by
  unfold ai_copy
  repeat' (first | exact nc_none | exact nc_nx | split)
theorem ai_inv_nr {o i kd n pc : Nat} {L : ai_L} {st : List Value} {h : ai_H} {r : ai_R} : ¬ ai_inv G o i kd n pc L st h = some (.inr (.inr r)) := by
  intro he
  unfold ai_inv at he
  split at he
  · cases he
  · split at he
    · cases he
    · split at he
      · cases he
      · split at he <;> simp at he
/-- a call step is one of four instructions -/
theorem ai_ex_call {i : Instr} {len pc pc' id : Nat} {L : ai_L} {st as rest : List Value} {h : ai_H} (hlk : ai_lok i len = true) (he : ai_ex G k i pc L st h = some (.inr (.inl (id, as, pc', rest)))) :
    ∃ j kd, ai_inv G (ai_mO k) j kd len pc L st h = some (.inr (.inl (id, as, pc', rest))) ∧ ((kd = 0 ∧ i = .invokestatic j ∧ len = 3) ∨ (kd = 1 ∧ i = .invokespecial j ∧ len = 3) ∨ (kd = 2 ∧ i = .invokevirtual j ∧ len = 3) ∨ (kd = 3 ∧ (∃ n, i = .invokeinterface j n) ∧ len = 5)) := by
  have fall : ∀ {o : Option ai_S} {x}, ai_ncP o → o = some (.inr (.inl x)) → False := by
    intro o x h1 h2
    obtain ⟨v, h, e⟩ := h1 _ h2
    cases e
  by_cases hi : ai_isInv i = false
  · exact (fall (ai_ex_nc i hi) he).elim
  · cases i <;> first | (exact absurd rfl hi) | skip
    case invokestatic j =>
      obtain rfl : len = 3 := by simpa [ai_lok] using hlk
      refine ⟨j, 0, ?_, Or.inl ⟨rfl, rfl, rfl⟩⟩
      simp only [ai_ex, ai_stat] at he
      split at he
      · exact (fall nc_copy he).elim
      · split at he
        · exact (fall (by repeat' (first | exact nc_none | exact nc_nx | split)) he).elim
        · split at he
          · exact (fall (by repeat' (first | exact nc_none | exact nc_nx | split)) he).elim
          · split at he
            · exact (fall (by repeat' (first | exact nc_none | exact nc_nx | split)) he).elim
            · exact he
    case invokespecial j =>
      obtain rfl : len = 3 := by simpa [ai_lok] using hlk
      refine ⟨j, 1, ?_, Or.inr (Or.inl ⟨rfl, rfl, rfl⟩)⟩
      simp only [ai_ex, ai_spec] at he
      split at he
      · exact (fall (by repeat' (first | exact nc_none | exact nc_nx | split)) he).elim
      · split at he
        · exact (fall (by repeat' (first | exact nc_none | exact nc_nx | split)) he).elim
        · exact he
    case invokevirtual j =>
      obtain rfl : len = 3 := by simpa [ai_lok] using hlk
      refine ⟨j, 2, ?_, Or.inr (Or.inr (Or.inl ⟨rfl, rfl, rfl⟩))⟩
      simp only [ai_ex, ai_virt] at he
      split at he
      · exact (fall (by repeat' (first | exact nc_none | exact nc_nx | split)) he).elim
      · exact he
    case invokeinterface j n =>
      obtain rfl : len = 5 := by simpa [ai_lok] using hlk
      exact ⟨j, 3, he, Or.inr (Or.inr (Or.inr ⟨rfl, ⟨n, rfl⟩, rfl⟩))⟩
    case athrow =>
      simp only [ai_ex] at he
      split at he
      · split at he
        · split at he <;> simp at he
        · cases he
      · cases he
theorem ai_ex_thr {i : Instr} {len pc q : Nat} {L : ai_L} {st : List Value} {h : ai_H} (hlk : ai_lok i len = true) (he : ai_ex G k i pc L st h = some (.inr (.inr (.inr q, h)))) :
    ∃ rest f, st = .ref q :: rest ∧ i = .athrow ∧ len = 1 ∧ h.1 q = some (.inr (ai_cWrong, f)) ∧ ai_mH k = [] := by
  have fall : ∀ {o : Option ai_S} {x : Nat} {y : ai_H}, ai_ncP o → o = some (.inr (.inr (.inr x, y))) → False := by
    intro o x y h1 h2
    obtain ⟨v, h, e⟩ := h1 _ h2
    cases e
  by_cases hi : ai_isInv i = false
  · exact (fall (ai_ex_nc i hi) he).elim
  · cases i <;> first | (exact absurd rfl hi) | skip
    case invokestatic j =>
      simp only [ai_ex, ai_stat] at he
      split at he
      · exact (fall nc_copy he).elim
      · split at he
        · exact (fall (by repeat' (first | exact nc_none | exact nc_nx | split)) he).elim
        · split at he
          · exact (fall (by repeat' (first | exact nc_none | exact nc_nx | split)) he).elim
          · split at he
            · exact (fall (by repeat' (first | exact nc_none | exact nc_nx | split)) he).elim
            · exact (ai_inv_nr he).elim
    case invokespecial j =>
      simp only [ai_ex, ai_spec] at he
      split at he
      · exact (fall (by repeat' (first | exact nc_none | exact nc_nx | split)) he).elim
      · split at he
        · exact (fall (by repeat' (first | exact nc_none | exact nc_nx | split)) he).elim
        · exact (ai_inv_nr he).elim
    case invokevirtual j =>
      simp only [ai_ex, ai_virt] at he
      split at he
      · exact (fall (by repeat' (first | exact nc_none | exact nc_nx | split)) he).elim
      · exact (ai_inv_nr he).elim
    case invokeinterface j n => exact (ai_inv_nr (L := L) he).elim
    case athrow =>
      obtain rfl : len = 1 := by simpa [ai_lok] using hlk
      simp only [ai_ex] at he
      split at he
      · rename_i q' rest
        split at he
        · rename_i cI f hy
          split at he
          · rename_i hc
            simp only [Option.some.injEq, Sum.inr.injEq, Prod.mk.injEq] at he
            obtain ⟨rfl, -⟩ := he
            obtain ⟨rfl, h2, -⟩ := hc
            exact ⟨rest, f, rfl, rfl, rfl, hy, h2⟩
          · cases he
        · cases he
      · cases he
theorem ai_mH_all : ∀ k, k < ai_nm → ai_mH k = [] ∨ (ai_mH k = [(20, 43, 46, 39)] ∧ ai_mO k = 0) := by decide +kernel
theorem ai_catchN {pc : Nat} (hk : k < ai_nm) (htab : c.exceptionTable.toList = tableOf (ai_mH k)) (hct : ai_catch k pc = none) : ∀ x ∈ c.exceptionTable.toList, covers x pc = false := by
  rw [htab]
  intro x hx
  rcases ai_mH_all k hk with e | ⟨e, -⟩
  · rw [e] at hx; cases hx
  · rw [e] at hx
    unfold ai_catch at hct
    rw [e] at hct
    have hx : x ∈ [(⟨20, 43, 46, 39⟩ : ExceptionTableEntry)] := hx
    rw [List.mem_singleton.mp hx]
    cases hb : (decide (20 ≤ pc) && decide (pc < 43)) with
    | false => exact hb
    | true =>
      have : (List.find? (fun x : Nat × Nat × Nat × Nat => decide (x.1 ≤ pc) && decide (pc < x.2.1)) [(20, 43, 46, 39)]) = some (20, 43, 46, 39) := by
        rw [List.find?_cons_of_pos]
        exact hb
      rw [this] at hct
      cases hct
theorem ai_w_catch : Cond.classLink (ai_cn 0) 39 ai_wN ∈ lw_all := q328
theorem ai_w_cast : Cond.castable ai_wN ai_wN ∈ ai_nw := nw330
theorem ai_catchW {pc tp q : Nat} {H : Heap} {locs : List Loc} {cells slots : Nat} {ls : Array Slot} {rest : List Value} {ce : Cell} (hk : k < ai_nm) (X : ai_X G D dA B H0 p s m args meth c k) (htab : c.exceptionTable.toList = tableOf (ai_mH k)) (hct : ai_catch k pc = some tp) (hcell : H[q]? = some ce) (hv : ce.vm = .none) (hcl : s.vm.findClass ai_wN = some ce.cls)
    (kk : W p l e R s m args below meth c H locs cells slots Q (F0 m tp ls [.ref q])) : vx_W p l e R s m args below meth c H locs cells slots Q (F0 m pc ls rest) q := by
  obtain ⟨hx, hb, hml, hown, hts, hK, -⟩ := X
  unfold ai_catch at hct
  rcases ai_mH_all k hk with e9 | ⟨e9, eo⟩
  · rw [e9] at hct; cases hct
  · rw [e9] at hct htab
    rw [eo] at hown
    cases hb9 : (decide (20 ≤ pc) && decide (pc < 43)) with
    | false =>
      have : (List.find? (fun x : Nat × Nat × Nat × Nat => decide (x.1 ≤ pc) && decide (pc < x.2.1)) [(20, 43, 46, 39)]) = none := by
        rw [List.find?_cons_of_neg (by rw [hb9]; decide)]
        rfl
      rw [this] at hct
      cases hct
    | true =>
      have : (List.find? (fun x : Nat × Nat × Nat × Nat => decide (x.1 ≤ pc) && decide (pc < x.2.1)) [(20, 43, 46, 39)]) = some (20, 43, 46, 39) := by
        rw [List.find?_cons_of_pos]
        exact hb9
      rw [this] at hct
      cases hct
      exact vx_catch hown [] ⟨20, 43, 46, 39⟩ [] htab (fun z hz => by cases hz) hb9 (by decide) (hts _ ai_w_catch) (va_Nw.use rfl (hK.2.1 _ ai_w_cast)) hcell hv hcl kk
set_option maxHeartbeats 4000000 in
theorem ai_gs (d : Nat) (hk : k < ai_nm) (hWI : ai_WI l G D dA B H0) (IH : ∀ d', d = d' + 1 → ai_Sound l G D dA B H0 d') (X : ai_X G D dA B H0 p s m args meth c k) (htab : c.exceptionTable.toList = tableOf (ai_mH k)) {res : Option Value ⊕ Nat} {hf : ai_H} {n0 u0 : Nat} (hRf : d + 9 ≤ R.frames) (hRl : 300 + 64 * d ≤ R.locals) (hRc : hf.2.1 - n0 ≤ R.cells) (hRs : hf.2.2 - u0 ≤ R.slots)
    (hret : ∀ (pc : Nat) (L : ai_L) (ls : Array Slot) (st : List Value) (i : Instr) (len : Nat) (H' : Heap) (locs' : List Loc), decode (ai_mC k) pc = .ok (i, len) → ai_lok i len = true → ai_ex G k i pc L st hf = some (.inr (.inr (res, hf))) → (∃ v, res = .inl v) → ai_rel G D dA B H0 hf H' → (∀ z ∈ locs', B ≤ z.base) → W p l e R s m args below meth c H' locs' (hf.2.1 - n0) (hf.2.2 - u0) Q (F0 m pc ls st))
    (hthr : ∀ (pc q : Nat) (ls : Array Slot) (rest : List Value) (ce : Cell) (H' : Heap) (locs' : List Loc), res = .inr q → (∀ x ∈ c.exceptionTable.toList, covers x pc = false) → ai_rel G D dA B H0 hf H' → (∀ z ∈ locs', B ≤ z.base) → H'[q]? = some ce → ce.vm = .none → s.vm.findClass ai_wN = some ce.cls → vx_W p l e R s m args below meth c H' locs' (hf.2.1 - n0) (hf.2.2 - u0) Q (F0 m pc ls rest) q) :
    ∀ (n pc : Nat) (L : ai_L) (ls : Array Slot) (st : List Value) (h : ai_H) (H : Heap) (locs : List Loc), ai_go G (ai_call G d) n k pc L st h = some (res, hf) → ai_lv L ls → L.length = ai_mL k → ai_rel G D dA B H0 h H → (∀ z ∈ locs, B ≤ z.base) → n0 ≤ h.2.1 → u0 ≤ h.2.2 → W p l e R s m args below meth c H locs (h.2.1 - n0) (h.2.2 - u0) Q (F0 m pc ls st) := by
  intro n
  induction n with
  | zero => intro pc L ls st h H locs hg; cases hg
  | succ n ih =>
    intro pc L ls st h H locs hg hl hLk r hlo hn0 hu0
    have hsz : ls.size = ai_mL k := hl.1.trans hLk
    have hmono := ai_go_mn (fun id as h r h' e => ai_call_mn G d id as h r h' e) _ _ _ _ _ _ _ _ hg
    simp only [ai_go] at hg
    have hstep : ∀ y, ai_step G k pc L st h = some y → ∃ i len, decode (ai_mC k) pc = .ok (i, len) ∧ ai_lok i len = true ∧ ai_ex G k i pc L st h = some y := by
      intro y hy
      unfold ai_step at hy
      split at hy
      · rename_i i len hd
        split at hy
        · rename_i hlk
          exact ⟨i, len, hd, hlk, hy⟩
        · cases hy
      · cases hy
    split at hg
    · cases hg
    · -- a step
      rename_i pc' L' st' h' hs
      obtain ⟨i, len, hd, hlk, hex⟩ := hstep _ hs
      have hm1 : h.2.1 ≤ h'.2.1 ∧ h.2.2 ≤ h'.2.2 := ai_ex_mn i _ hex
      have hm2 := ai_go_mn (fun id as h r h' e => ai_call_mn G d id as h r h' e) _ _ _ _ _ _ _ _ hg
      refine ai_sx hWI X hd hlk hex hl hLk r hlo (by omega) (by omega) (by omega) (by omega) (fun ls' H' locs' g1 g2 g3 => ?_)
      have e1 : h.2.1 - n0 + (h'.2.1 - h.2.1) = h'.2.1 - n0 := by omega
      have e2 : h.2.2 - u0 + (h'.2.2 - h.2.2) = h'.2.2 - u0 := by omega
      rw [e1, e2]
      exact ih pc' L' ls' st' h' H' locs' hg g1 ((ai_ex_len hex).trans hLk) g2 g3 (by omega) (by omega)
    · -- a call
      rename_i id as pc' rest hs
      obtain ⟨i, len, hd, hlk, hex⟩ := hstep _ hs
      obtain ⟨j, kd, hinv, hig⟩ := ai_ex_call hlk hex
      obtain ⟨n9, cI9, -, -, -, hpc', -, hCK, -⟩ := ai_inv_ok hinv
      have hid := hCK.1
      cases hc : ai_call G d id as h with
      | none => rw [hc] at hg; cases hg
      | some rr =>
        obtain ⟨r1, h1⟩ := rr
        have hm1 := ai_call_mn G d id as h r1 h1 hc
        cases d with
        | zero => cases hc
        | succ d' =>
          have hS := IH d' rfl
          have hthr1 : ai_thr id = true ∨ ∃ v, r1 = .inl v := by
            rw [hc] at hg
            cases r1 with
            | inl v => exact Or.inr ⟨v, rfl⟩
            | inr q =>
              simp only at hg
              split at hg
              · rename_i ht; exact Or.inl ht
              · cases hg
          have hM := hS id as h r1 h1 hid.1 hid.2 hc hthr1
          have hm2 : h1.2.1 ≤ hf.2.1 ∧ h1.2.2 ≤ hf.2.2 := by
            rw [hc] at hg
            cases r1 with
            | inl v => exact ai_go_mn (fun id as h r h' e => ai_call_mn G _ id as h r h' e) _ _ _ _ _ _ _ _ hg
            | inr q =>
              simp only at hg
              split at hg
              · split at hg
                · exact ai_go_mn (fun id as h r h' e => ai_call_mn G _ id as h r h' e) _ _ _ _ _ _ _ _ hg
                · cases hg; exact ⟨Nat.le_refl _, Nat.le_refl _⟩
              · cases hg
          have hrun := ai_x_call (e := e) (R := R) (below := below) (locs := locs) (cells := h.2.1 - n0) (slots := h.2.2 - u0) (meth := meth) X hsz r hd hig hinv hM rfl rfl ⟨by show d' + 9 + 1 ≤ _; omega, by have := ai_mL45 id hid.2; show 8 + (ai_mL id + 11) + (300 + 64 * d') ≤ _; omega⟩
            (fun ht q E st9 t hx => by
              rcases hthr1 with z | ⟨v, z⟩
              · rw [ht] at z; cases z
              · obtain ⟨hx1, -⟩ := hx
                rw [z] at hx1; cases hx1)
            ⟨by omega, by omega⟩
          have e1 : h.2.1 - n0 + (h1.2.1 - h.2.1) = h1.2.1 - n0 := by omega
          have e2 : h.2.2 - u0 + (h1.2.2 - h.2.2) = h1.2.2 - u0 := by omega
          intro T hT Y
          rcases hrun T hT Y with ⟨v, st0, t, T', Lx, a1, Y', a3, a4, a5, ⟨v', hv1, hv2, hrel⟩, go⟩ | ⟨q, st0, t, T', Lx, E, ce, a1, Y', a3, a4, a5, ⟨hx1, hx2, hrel⟩, hce, hcv, hcl, stp⟩
          · cases hv2
            subst hv1
            rw [hc] at hg
            rw [e1, e2] at Y'
            have hlo' : ∀ z ∈ locs ++ Lx, B ≤ z.base := fun z hz => (List.mem_append.mp hz).elim (hlo z) (a3 z)
            obtain ⟨t2, s1, q1⟩ := ih pc' L ls (v.toList ++ rest) h1 T'.heap (locs ++ Lx) hg hl hLk (by rw [a4]; exact hrel) hlo' (by omega) (by omega) T' rfl Y'
            subst hpc'
            exact ⟨t2, go t2 s1, q1⟩
          · subst hx1
            subst hx2
            rw [hc] at hg
            rw [e1, e2] at Y'
            have hlo' : ∀ z ∈ locs ++ Lx, B ≤ z.base := fun z hz => (List.mem_append.mp hz).elim (hlo z) (a3 z)
            have hrel' : ai_rel G D dA B H0 h1 T'.heap := by rw [a4]; exact hrel
            have hce' : T'.heap[q]? = some ce := by rw [a4]; exact hce
            simp only at hg
            split at hg
            · split at hg
              · rename_i tp hct
                have hw9 := ih tp L ls [.ref q] h1 T'.heap (locs ++ Lx) hg hl hLk hrel' hlo' (by omega) (by omega)
                have hcat := ai_catchW (rest := rest) hk X htab hct hce' hcv hcl hw9
                obtain ⟨t2, s1, q1⟩ := hcat T' rfl Y'
                exact ⟨t2, stp.trans s1, q1⟩
              · rename_i hct
                cases hg
                obtain ⟨t2, s1, q1⟩ := hthr pc q ls rest ce T'.heap (locs ++ Lx) rfl (ai_catchN hk htab hct) hrel' hlo' hce' hcv hcl T' rfl Y'
                exact ⟨t2, stp.trans s1, q1⟩
            · cases hg
    · -- an end
      rename_i hs
      obtain ⟨i, len, hd, hlk, hex⟩ := hstep _ hs
      rename_i rr
      cases hg
      have hhf : hf = h := ai_ex_mn i _ hex
      subst hhf
      cases res with
      | inl v => exact hret pc L ls st i len H locs hd hlk hex ⟨v, rfl⟩ r hlo
      | inr q =>
        obtain ⟨rest, f, rfl, rfl, hlen9, hy, hH⟩ := ai_ex_thr hlk hex
        subst hlen9
        obtain ⟨hx, hb, -, -, -, hK, -⟩ := X
        obtain ⟨q0, hq0, cell, g1, g2, g3, -⟩ := ai_ob r hy
        refine vx_athrow hx hb hd (hthr pc q ls rest cell H locs rfl ?_ r hlo g1 g3 ?_)
        · rw [htab, hH]; exact fun x hx => by cases hx
        · rw [g2]; exact (hK.1.1 ai_cWrong _ rfl).2.1
end AIMM

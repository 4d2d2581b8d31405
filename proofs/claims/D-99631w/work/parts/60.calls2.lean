/-! CALLS, 2: a step makes no cell less; what a call step says -/
set_option maxRecDepth 100000
def ai_mnP (h : ai_H) (y : ai_S) : Prop := match y with
  | .inl x => h.2.1 ≤ x.2.2.2.2.1 ∧ h.2.2 ≤ x.2.2.2.2.2
  | .inr (.inl _) => True
  | .inr (.inr r) => r.2 = h
def ai_mn (o : Option ai_S) (h : ai_H) : Prop := ∀ y, o = some y → ai_mnP h y
section AIM
variable {G : ai_G} {k pc : Nat} {L : ai_L} {st : List Value} {h : ai_H}
theorem mn_none : ai_mn none h := fun y e => by cases e
theorem mn_nx : ai_mn (ai_nx pc L st h) h := fun y e => by cases e; exact ⟨Nat.le_refl _, Nat.le_refl _⟩
theorem mn_set {a : Nat} {x : ai_C} : ai_mn (ai_nx pc L st (ai_set h a x)) h := fun y e => by cases e; exact ⟨Nat.le_refl _, Nat.le_refl _⟩
theorem mn_push {n : Nat} {x : ai_C} : ai_mn (ai_nx pc L st (ai_push h x n)) h := fun y e => by cases e; exact ⟨Nat.le_succ _, Nat.le_add_right _ _⟩
theorem mn_call {x : Nat × List Value × Nat × List Value} : ai_mn (some (.inr (.inl x))) h := fun y e => by cases e; trivial
theorem mn_end {x : Option Value ⊕ Nat} : ai_mn (some (.inr (.inr (x, h)))) h := fun y e => by cases e; rfl
theorem mn_ret {x : Option Value} : ai_mn (ai_ret x h) h := fun y e => by cases e; rfl
theorem mn_bind {α : Type} {o : Option α} {f : α → Option ai_S} (hf : ∀ t, ai_mn (f t) h) : ai_mn (o.bind f) h := by
  cases o with
  | none => exact mn_none
  | some t => exact hf t
theorem mn_go1 {b : Bool} {off : Int} : ai_mn (ai_go1 b pc off L st h) h := by
  unfold ai_go1
  refine mn_bind fun t => ?_
  split
  · exact mn_nx
  · exact mn_nx
theorem mn_pushv {v : Option Value} {n : Nat} : ai_mn (ai_pushv v n pc L st h) h := by
  unfold ai_pushv
  split
  · exact mn_nx
  · exact mn_none
theorem mn_inv {o i kd n : Nat} : ai_mn (ai_inv G o i kd n pc L st h) h := by
  unfold ai_inv
  repeat' (first | exact mn_none | exact mn_call | split)
set_option maxHeartbeats 4000000 in
theorem ai_ex_mn (i : Instr) : ai_mn (ai_ex G k i pc L st h) h := by
  cases i <;> simp only [ai_ex, ai_lda, ai_ldi, ai_ldl, ai_sta, ai_sti, ai_stl, ai_iinc, ai_ib, ai_id, ai_iu, ai_acmp, ai_nul, ai_aldi, ai_aldl, ai_alda, ai_asti, ai_astl, ai_asta, ai_alen, ai_getf, ai_putf, ai_new, ai_newa, ai_anew, ai_cast, ai_spec, ai_stat, ai_virt, ai_copy] <;> repeat' (first | exact mn_none | exact mn_nx | exact mn_set | exact mn_push | exact mn_go1 | exact mn_pushv | exact mn_inv | exact mn_ret | exact mn_end | (refine mn_bind fun _ => ?_) | split)
theorem ai_step_mn : ai_mn (ai_step G k pc L st h) h := by
  unfold ai_step
  split
  · split
    · exact ai_ex_mn _
    · exact mn_none
  · exact mn_none
end AIM
theorem ai_go_mn {G : ai_G} {call : Nat → List Value → ai_H → Option ai_R} (hcall : ∀ id as h r h', call id as h = some (r, h') → h.2.1 ≤ h'.2.1 ∧ h.2.2 ≤ h'.2.2) : ∀ (n k pc : Nat) (L : ai_L) (st : List Value) (h : ai_H) (r : Option Value ⊕ Nat) (h' : ai_H), ai_go G call n k pc L st h = some (r, h') → h.2.1 ≤ h'.2.1 ∧ h.2.2 ≤ h'.2.2 := by
  intro n
  induction n with
  | zero => intro k pc L st h r h' e; cases e
  | succ n ih =>
    intro k pc L st h r h' e
    have hm : ai_mn (ai_step G k pc L st h) h := ai_step_mn
    simp only [ai_go] at e
    split at e
    · cases e
    · rename_i hs
      have h1 := hm _ hs
      have h2 := ih _ _ _ _ _ _ _ e
      exact ⟨Nat.le_trans h1.1 h2.1, Nat.le_trans h1.2 h2.2⟩
    · rename_i hs
      split at e
      · cases e
      · rename_i hc
        have h1 := hcall _ _ _ _ _ hc
        have h2 := ih _ _ _ _ _ _ _ e
        exact ⟨Nat.le_trans h1.1 h2.1, Nat.le_trans h1.2 h2.2⟩
      · rename_i hc
        have h1 := hcall _ _ _ _ _ hc
        split at e
        · split at e
          · have h2 := ih _ _ _ _ _ _ _ e
            exact ⟨Nat.le_trans h1.1 h2.1, Nat.le_trans h1.2 h2.2⟩
          · cases e
            exact h1
        · cases e
    · rename_i hs
      have h1 := hm _ hs
      cases e
      have h1 : h' = h := h1
      rw [h1]
      exact ⟨Nat.le_refl _, Nat.le_refl _⟩
theorem ai_call_mn (G : ai_G) : ∀ (d id : Nat) (as : List Value) (h : ai_H) (r : Option Value ⊕ Nat) (h' : ai_H), ai_call G d id as h = some (r, h') → h.2.1 ≤ h'.2.1 ∧ h.2.2 ≤ h'.2.2 := by
  intro d
  induction d with
  | zero => intro id as h r h' e; cases e
  | succ d ih =>
    intro id as h r h' e
    have e : (if (ai_sl as).length ≤ ai_mL id then ai_fix (fun n => ai_go G (ai_call G d) n id 0 (ai_en id as) [] h) else none) = some (r, h') := e
    split at e
    · obtain ⟨n, hn⟩ := ai_fix_get e
      exact ai_go_mn (fun id as h r h' e => ih id as h r h' e) _ _ _ _ _ _ _ _ hn
    · cases e
theorem ai_cT_ok {kd o i cI id : Nat} (he : ai_cT kd o i cI = some id) : ai_CK o i cI id kd := by
  unfold ai_cT at he
  cases hf : (ai_ctl o).find? fun e => e.1 == i && e.2.1 == cI && e.2.2.2 == kd with
  | none => rw [hf] at he; cases he
  | some x =>
    rw [hf] at he
    obtain ⟨hm, hx⟩ := ai_find_mem hf
    simp only [Bool.and_eq_true, beq_iff_eq] at hx
    obtain ⟨⟨h1, h2⟩, h3⟩ := hx
    subst h1; subst h2; subst h3
    have : x.2.2.1 = id := Option.some.inj he
    subst this
    exact ai_ct_ok o x hm
/-- a call step, taken apart -/
theorem ai_inv_ok {G : ai_G} {o i kd n9 pc pc' id : Nat} {L : ai_L} {st as rest : List Value} {h : ai_H} (he : ai_inv G o i kd n9 pc L st h = some (.inr (.inl (id, as, pc', rest)))) :
    ∃ n cI, ai_aN o i = some n ∧ as.length = n ∧ st = as.reverse ++ rest ∧ pc' = pc + n9 ∧ ai_wt rest ≤ 8 ∧ ai_CK o i cI id kd ∧ (¬ kd = 0 → ∃ a tl, as = .ref a :: tl ∧ (¬ kd = 1 → ∃ f, ai_rd G h a = some (.inr (cI, f)))) := by
  unfold ai_inv at he
  split at he
  · cases he
  · rename_i n hn
    split at he
    · cases he
    · rename_i hl
      split at he
      · cases he
      · rename_i cI hc
        split at he
        · cases he
        · rename_i id' hid
          simp only [Option.some.injEq, Sum.inr.injEq, Sum.inl.injEq, Prod.mk.injEq] at he
          obtain ⟨rfl, rfl, rfl, rfl⟩ := he
          have hl1 : n ≤ st.length := Nat.le_of_not_lt fun z => hl (Or.inl z)
          refine ⟨n, cI, hn, by simp; omega, by simp, rfl, Nat.le_of_not_lt fun z => hl (Or.inr z), ai_cT_ok hid, fun hkd => ?_⟩
          rw [if_neg hkd] at hc
          cases hh : (st.take n).reverse with
          | nil => rw [hh] at hc; cases hc
          | cons v tl =>
            rw [hh] at hc
            by_cases h1 : kd = 1
            · rw [if_pos h1] at hc
              have hc : ai_rc1 v = some cI := hc
              unfold ai_rc1 at hc
              split at hc
              · exact ⟨_, tl, rfl, fun z => absurd h1 z⟩
              · cases hc
            · rw [if_neg h1] at hc
              have hc : ai_rc G h v = some cI := hc
              unfold ai_rc at hc
              split at hc
              · split at hc
                · rename_i a cI' f hr
                  cases hc
                  exact ⟨_, tl, rfl, fun _ => ⟨f, hr⟩⟩
                · cases hc
              · cases hc
theorem ai_mL_le : ∀ M ∈ ai_mt, M.2.2.1 ≤ 45 := by decide +kernel

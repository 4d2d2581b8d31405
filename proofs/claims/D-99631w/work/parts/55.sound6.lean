/-! SOUNDNESS, 6: fields written, new cells, casts, references stored -/
set_option maxRecDepth 100000
theorem ai_fit_ok {ty : FieldType} {v : Value} (h : ai_fit ty v = true) : narrow ty v = v ∧ fits ty v = true := by
  cases ty <;> cases v <;> first | (simp [ai_fit] at h; done) | skip
  case int.int x => exact ⟨rfl, rfl⟩
  case long.long x => exact ⟨rfl, rfl⟩
  case object.ref x => exact ⟨rfl, rfl⟩
  case object.null => exact ⟨rfl, rfl⟩
  case array.ref x => exact ⟨rfl, rfl⟩
  case array.null => exact ⟨rfl, rfl⟩
  case boolean.int x =>
    simp only [ai_fit, Bool.or_eq_true, decide_eq_true_eq] at h
    rcases h with rfl | rfl <;> exact ⟨by decide, by decide⟩
  case byte.int x =>
    simp only [ai_fit, decide_eq_true_eq] at h
    rw [← h]
    exact ⟨pk_nb x, pk_fb x⟩
  case char.int x =>
    simp only [ai_fit, decide_eq_true_eq] at h
    rw [← h]
    exact ⟨pk_nc x, pk_fc x⟩
section AIW
variable {p : Program} {l : Launch} {e : Env} {R : Room} {s : State} {m : MethodId} {args : Array Value} {below : List Frame} {meth : Method} {c : Code} {H : Heap} {locs : List Loc} {cells slots : Nat} {Q : State → Prop}
variable {G : ai_G} {D : va_G} {dA : Nat → ClassId} {B : Nat} {H0 : Heap} {k pc pc' : Nat} {L L' : ai_L} {ls : Array Slot} {st st' : List Value} {h h' : ai_H}
theorem ai_x_putf (X : ai_X G D dA B H0 p s m args meth c k) (r : ai_rel G D dA B H0 h H) (hlo : ∀ z ∈ locs, B ≤ z.base) {i : Nat} (hd : decode (ai_mC k) pc = .ok (.putfield i, 3))
    (he : ai_putf (ai_mO k) i (ai_mI k) pc L st h = some (.inl (pc', L', st', h'))) (kk : ∀ H' locs', L' = L → h'.2 = h.2 → ai_rel G D dA B H0 h' H' → (∀ z ∈ locs', B ≤ z.base) → W p l e R s m args below meth c H' locs' cells slots Q (F0 m pc' ls st')) : W p l e R s m args below meth c H locs cells slots Q (F0 m pc ls st) := by
  obtain ⟨hx, hb, hml, hown, hts, hK, -, -, hini⟩ := X
  unfold ai_putf at he
  split at he
  · rename_i v a rest
    split at he
    · rename_i cI f hy
      split at he
      · rename_i k9 hf
        split at he
        · rename_i hc
          obtain ⟨rfl, rfl, rfl, rfl⟩ := ai_nx_inv he
          simp only [Bool.and_eq_true, Bool.or_eq_true, Bool.not_eq_true', decide_eq_true_eq] at hc
          obtain ⟨hfit, hfin⟩ := hc
          obtain ⟨q0, hq0, hob⟩ := ai_ob r hy
          have hlt : cI < ai_ncl := (List.getElem?_eq_some_iff.mp hq0).1
          obtain ⟨q, ref, hq, hk9, hlink, hsame⟩ := (ai_fT_ok hf).1 hlt
          cases hq0.symm.trans hq
          obtain ⟨q', hq'⟩ := ai_clk cI hlt
          cases hq.symm.trans hq'.1
          have hsm : ∀ x, s.fieldFound? (q0.2.1 k9).1 (q0.2.1 k9).2.1 (q0.2.1 k9).2.2.1 = some x → s.fieldFound? ref (q0.2.1 k9).2.1 (q0.2.1 k9).2.2.1 = some x := by
            rcases hsame with e | e
            · rw [e]; exact fun _ z => z
            · exact fun x z => u_same (hts _ e) x z
          obtain ⟨cell, q1, q2, q3, q4⟩ := hob
          have hap := ai_apart (D := D) hts hK hq'
          obtain ⟨hS, hfc, kC, hkC, hkind⟩ := hK.1.1 cI _ hq
          obtain ⟨cf, kf, fi, fd, hi, hsl⟩ := hS k9 hk9
          have hlay := hts _ (hq'.2.2.2.1 _ (u_in_lay hk9))
          have hst := (u_facts hfc hkC (u_lays hts hq'.2.2.2.1 hk9) hi).1
          obtain ⟨hn, hv⟩ := ai_fit_ok hfit
          have hT : q0.2.1 = ai_T cI := hq'.2.1
          have fin : ∀ H' : Heap, H'[a]? = some (cell.setSlot fd.slot v) → H'.size = H.size → (∀ z, z ≠ a → H'[z]? = H[z]?) → W p l e R s m args below meth c H' (locs ++ [⟨a, fd.slot⟩]) cells slots Q (F0 m (pc + 3) ls st') := by
            intro H' e1 e2 e3
            refine kk H' _ rfl rfl (r.put hy e2 e3 (ai_at_ob hq ?_)) (ai_locs_put hlo (r.lt hy).1)
            rw [hsl] at e1
            refine ⟨_, e1, q2, q3, fun j hj => ?_⟩
            have := t_set q4 hap hk9 v j hj
            rw [this]
            congr 1
          have hlt9 : fd.slot < cell.slots.size := by rw [hsl]; exact k2_hasslot (q4 k9 hk9)
          by_cases hF : (q0.2.1 k9).2.2.2 = true
          · have hF' : ai_fin cI k9 = true := by unfold ai_fin; rw [← hT]; exact hF
            rcases hfin with hf2 | ⟨hi2, hdc⟩
            · rw [hF'] at hf2; cases hf2
            · rw [← hT] at hdc
              unfold u_lay at hlay
              rw [if_pos hF] at hlay
              have hcf : m.cls = cf := by
                obtain ⟨_, _, c', _, _, _, -, -, hf', -, -, -, hown2, -⟩ := Cond.laysFinal_spec hlay
                have e1 : c' = cf := by have := hi.symm.trans hf'; simp at this; exact this.1.symm
                rw [hdc] at hown2
                rw [← e1]; exact Option.some.inj (hown.symm.trans hown2)
              have h6 := u_fits hfc hkC hkind (Or.inr hlay) hi (hq'.2.2.1 k9 hk9) hn hv
              rcases hlink with hl | ⟨host, hl, hne⟩
              · exact W.putFinK hx hb hown (hts _ hl) (hsm _ hi) hst hcf (hini hi2) (by rw [q2]; exact h6) q1 q3 hlt9 rfl rfl hd fin
              · exact absurd hdc hne
          · unfold u_lay at hlay
            rw [if_neg hF] at hlay
            have h6 := u_store hfc hkC hkind hlay hi (hq'.2.2.1 k9 hk9) hn hv
            rcases hlink with hl | ⟨host, hl, hne⟩
            · exact W.putK hx hb (f := fd) ⟨hown, hts _ hl, ⟨_, _, _, hsm _ hi⟩, hst⟩ (by rw [q2]; exact h6) q1 q3 hlt9 rfl rfl hd fin
            · exact va_WputK hx hb (f := fd) hown (va_Nw.use rfl (hK.2.1 _ hl)) (hsm _ hi) hst (by rw [q2]; exact h6) q1 q3 hlt9 rfl rfl hd fin
        · cases he
      · cases he
    · cases he
  · cases he
theorem ai_nT_ok {o i cI : Nat} (he : ai_nT o i = some cI) : cI < ai_ncl ∧ Cond.classLink (ai_cn o) i (ai_cn cI) ∈ lw_all := by
  unfold ai_nT at he
  cases hf : (ai_ntl o).find? fun e => e.1 == i with
  | none => rw [hf] at he; cases he
  | some x =>
    rw [hf] at he
    obtain ⟨hm, hx⟩ := ai_find_mem hf
    simp only [beq_iff_eq] at hx
    subst hx
    have : x.2 = cI := Option.some.inj he
    subst this
    exact ai_nt_ok o x hm
theorem ai_x_new (X : ai_X G D dA B H0 p s m args meth c k) (r : ai_rel G D dA B H0 h H) (hlo : ∀ z ∈ locs, B ≤ z.base) {i : Nat} (hd : decode (ai_mC k) pc = .ok (.new i, 3))
    (he : ai_new (ai_mO k) i pc L st h = some (.inl (pc', L', st', h'))) (hc : cells + (h'.2.1 - h.2.1) ≤ R.cells) (hs : slots + (h'.2.2 - h.2.2) ≤ R.slots) (kk : ∀ H', L' = L → ai_rel G D dA B H0 h' H' → W p l e R s m args below meth c H' locs (cells + (h'.2.1 - h.2.1)) (slots + (h'.2.2 - h.2.2)) Q (F0 m pc' ls st')) : W p l e R s m args below meth c H locs cells slots Q (F0 m pc ls st) := by
  obtain ⟨hx, hb, hml, hown, hts, hK, -⟩ := X
  unfold ai_new at he
  split at he
  · rename_i cI hn
    obtain ⟨rfl, rfl, rfl, rfl⟩ := ai_nx_inv he
    obtain ⟨hlt, hlink⟩ := ai_nT_ok hn
    obtain ⟨q, hq⟩ := ai_clk cI hlt
    have e1 : (ai_push h (.inr (cI, fun j => defaultValue (ai_ty cI j))) (ai_nf cI)).2.1 - h.2.1 = 1 := by show h.2.1 + 1 - h.2.1 = 1; omega
    have e2 : (ai_push h (.inr (cI, fun j => defaultValue (ai_ty cI j))) (ai_nf cI)).2.2 - h.2.2 = ai_nf cI := by show h.2.2 + ai_nf cI - h.2.2 = ai_nf cI; omega
    rw [e1] at hc
    rw [e2] at hs
    rw [e1, e2] at kk
    have hKn := hK.1.1 cI _ hq.1
    have hcn : ai_cn cI = q.1 := hq.2.2.2.2.2.1
    rw [hcn] at hlink
    refine W.newcK hx hb hown (hts _ hlink) (hts _ hq.2.2.2.2.2.2.2.1) (hts _ hq.2.2.2.2.2.2.1) rfl hd hc hs hKn.2.1 r.1 fun H1 kC hkC g1 z1 o1 => ?_
    refine kk H1 rfl (r.push (by rw [z1, r.1]) (fun z hz => o1 z (by rw [← r.1]; exact hz)) ?_)
    rw [r.1]
    exact ai_at_ob hq.1 (u_born (ai_ty cI) hts hq.2.2.2.1 hKn hkC g1 hq.2.2.1)
  · cases he
end AIW

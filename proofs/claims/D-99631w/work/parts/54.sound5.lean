/-! SOUNDNESS, 5: objects: fields, new, casts, arrays of references -/
set_option maxRecDepth 100000
/-- what stands at a method's entry -/
def ai_X (G : ai_G) (D : va_G) (dA : Nat → ClassId) (B : Nat) (H0 : Heap) (p : Program) (s : State) (m : MethodId) (args : Array Value) (meth : Method) (c : Code) (k : Nat) : Prop :=
  p.tables.exec = Jvm.exec ∧ c.code = ai_mC k ∧ c.maxLocals = ai_mL k ∧ s.vm.findClass (ai_cn (ai_mO k)) = some m.cls ∧ (∀ w ∈ lw_all, w.before args s = true) ∧ ai_K G D dA B H0 s ∧ meth.sig.returnType = ai_mR k ∧ meth.locks = false ∧ (ai_mI k = true → meth.name = "<init>")
/-- fields of two owners, laid by one class, are apart -/
theorem ai_laid {args : Array Value} {s : State} {C O f d : String} {cC cf fi : Nat} {kf : Class} {fd : Field} (hfc : s.vm.findClass C = some cC) (hl : (Cond.lays C O f d).before args s = true ∨ (Cond.laysFinal C O f d).before args s = true) (hi : s.fieldFound? O f d = some (cf, kf, fi, fd)) :
    ∃ z, Jmm.declares? s.vm fd.slot (cC + 1) cC = some z ∧ z.1.name = O := by
  have hkf := (State.fieldFound?_spec hi)
  rcases hl with h | h
  · obtain ⟨c, k, c', k', i', f', r1, r2, r3, -, -, -, -, z, hz, hn, -⟩ := Cond.lays_spec h
    have how := Cond.lays_declared h hi
    cases hfc.symm.trans r1
    cases hi.symm.trans r3
    obtain ⟨ko, hko, hnm⟩ := Vm.findClass_spec how
    have e : ko = kf := Option.some.inj (hko.symm.trans hkf.1)
    exact ⟨z, hz, by rw [hn, ← e]; exact hnm⟩
  · obtain ⟨c, k, c', k', i', f', r1, r2, r3, -, -, -, how, -, z, hz, hn, -⟩ := Cond.laysFinal_spec h
    cases hfc.symm.trans r1
    cases hi.symm.trans r3
    obtain ⟨ko, hko, hnm⟩ := Vm.findClass_spec how
    have e : ko = kf := Option.some.inj (hko.symm.trans hkf.1)
    exact ⟨z, hz, by rw [hn, ← e]; exact hnm⟩
theorem ai_apart2 {args : Array Value} {s : State} {C O f d O' f' d' : String} {cC : Nat} (hfc : s.vm.findClass C = some cC) (h : (Cond.lays C O f d).before args s = true ∨ (Cond.laysFinal C O f d).before args s = true) (h' : (Cond.lays C O' f' d').before args s = true ∨ (Cond.laysFinal C O' f' d').before args s = true)
    {cf kf fi fd cf' kf' fi' fd'} (hi : s.fieldFound? O f d = some (cf, kf, fi, fd)) (hi' : s.fieldFound? O' f' d' = some (cf', kf', fi', fd')) (hne : O ≠ O') : fd.slot ≠ fd'.slot := by
  obtain ⟨z, hz, e⟩ := ai_laid hfc h hi
  obtain ⟨z', hz', e'⟩ := ai_laid hfc h' hi'
  intro hs
  rw [hs] at hz
  cases hz.symm.trans hz'
  exact hne (e.symm.trans e')
section AIZ
variable {p : Program} {l : Launch} {e : Env} {R : Room} {s : State} {m : MethodId} {args : Array Value} {below : List Frame} {meth : Method} {c : Code} {H : Heap} {locs : List Loc} {cells slots : Nat} {Q : State → Prop}
variable {G : ai_G} {D : va_G} {dA : Nat → ClassId} {B : Nat} {H0 : Heap} {k pc pc' : Nat} {L L' : ai_L} {ls : Array Slot} {st st' : List Value} {h h' : ai_H}
theorem ai_N_of {cI : Nat} {q : vw_C} (hq : ai_cl[cI]? = some q) : ai_N cI = q.2.2 := by unfold ai_N; rw [hq]; rfl
theorem ai_fs_at {f : Nat → Value} {n j : Nat} (h : j < n) : ((List.range n).map f)[j]? = some (f j) := by
  rw [List.getElem?_map, List.getElem?_range h]
  rfl
theorem ai_vpV {f : Nat → Value} {n j : Nat} (h : j < n) : vp_V ((List.range n).map f) j = f j := by
  unfold vp_V
  rw [List.getD_eq_getElem?_getD, ai_fs_at h]
  rfl
/-- an object of the heap, as a cell of the machine -/
theorem ai_ob (r : ai_rel G D dA B H0 h H) {a cI : Nat} {f : Nat → Value} (e : h.1 a = some (.inr (cI, f))) : ∃ q, ai_cl[cI]? = some q ∧ t_OB a (D.1 cI) q.2.2 (D.2 cI) H f := by
  obtain ⟨q, hq, hob⟩ := r.2.2.2.2 a _ e
  have hq : ai_cl[cI]? = some q := hq
  refine ⟨q, hq, hob.to (fun j hj => ?_)⟩
  show vp_V ((List.range (ai_N cI)).map f) j = f j
  exact ai_vpV (by rw [ai_N_of hq]; exact hj)
theorem ai_at_ob {a cI : Nat} {f : Nat → Value} {q : vw_C} (hq : ai_cl[cI]? = some q) (hob : t_OB a (D.1 cI) q.2.2 (D.2 cI) H f) : va_at D ai_cl (a, ai_conc dA (.inr (cI, f))) H := by
  refine ⟨q, hq, hob.to (fun j hj => ?_)⟩
  show f j = vp_V ((List.range (ai_N cI)).map f) j
  exact (ai_vpV (by rw [ai_N_of hq]; exact hj)).symm
theorem ai_P1 (r : ai_rel G D dA B H0 h H) {a : Nat} {x : ai_C} (e : h.1 a = some x) : va_P D ai_cl [(a, ai_conc dA x)] H := by
  intro j q hq
  have hj : j < 1 := (List.getElem?_eq_some_iff.mp hq).1
  rw [show j = 0 by omega] at hq
  cases hq
  exact r.2.2.2.2 a x e
theorem ai_kept_old (hK : ai_K G D dA B H0 s) (r : ai_rel G D dA B H0 h H) : ∀ a : Nat, a < H0.size → ¬ ai_A B a → H[a]? = H0[a]? := fun a _ ha => r.2.2.1 a (Nat.not_le.mp ha)
/-- the cell of a receiver -/
theorem ai_recv (hK : ai_K G D dA B H0 s) (r : ai_rel G D dA B H0 h H) {a cI : Nat} {f : Nat → Value} (e : ai_rd G h a = some (.inr (cI, f))) : ∃ cell : Cell, H[a]? = some cell ∧ cell.vm.isStatics = false ∧ s.vm.findClass (ai_cn cI) = some cell.cls := by
  unfold ai_rd at e
  split at e
  · rename_i y hy
    cases e
    obtain ⟨q, hq, hob⟩ := ai_ob r hy
    have hlt : cI < ai_ncl := (List.getElem?_eq_some_iff.mp hq).1
    obtain ⟨q', hq'⟩ := ai_clk cI hlt
    cases hq.symm.trans hq'.1
    obtain ⟨cell, g1, g2, g3, -⟩ := hob
    exact ⟨cell, g1, by rw [g3]; rfl, by rw [hq'.2.2.2.2.2.1, g2]; exact (hK.1.1 cI q hq).2.1⟩
  · obtain ⟨hlt, hold⟩ := hK.2.2.2.2.2.2.2.2.2.1 a _ e
    obtain ⟨rfl, -, -, hO⟩ := hold
    obtain ⟨cell, h1, h2, h3, -⟩ := hO.kept (ai_kept_old hK r)
    exact ⟨cell, h1, h2, h3⟩
theorem ai_fT_ok {o i cI k9 : Nat} (he : ai_fT o i cI = some k9) : (cI < ai_ncl → ai_FOK o i cI k9) ∧ (o, i, cI, k9) ∈ (ai_ftl o).map (fun e => (o, e.1, e.2.1, e.2.2)) := by
  unfold ai_fT at he
  cases hf : (ai_ftl o).find? fun e => e.1 == i && e.2.1 == cI with
  | none => rw [hf] at he; cases he
  | some x =>
    rw [hf] at he
    obtain ⟨hm, hx⟩ := ai_find_mem hf
    simp only [Bool.and_eq_true, beq_iff_eq] at hx
    obtain ⟨h1, h2⟩ := hx
    subst h1; subst h2
    have : x.2.2 = k9 := Option.some.inj he
    subst this
    exact ⟨ai_ft_ok o x hm, List.mem_map.mpr ⟨x, hm, rfl⟩⟩
/-- the two fields of String that are read -/
theorem ai_ft_str : ∀ o, ∀ e ∈ ai_ftl o, ai_ncl ≤ e.2.1 → (e.2.2 = 0 ∧ Cond.fieldLink (ai_cn o) e.1 ai_sN "value" "[B" ∈ lw_all) ∨ (e.2.2 = 1 ∧ Cond.fieldLink (ai_cn o) e.1 ai_sN "code\x72" "B" ∈ lw_all) := ai_ft_strs
theorem ai_x_getf (X : ai_X G D dA B H0 p s m args meth c k) (r : ai_rel G D dA B H0 h H) {i : Nat} (hd : decode (ai_mC k) pc = .ok (.getfield i, 3))
    (he : ai_getf G (ai_mO k) i pc L st h = some (.inl (pc', L', st', h'))) (kk : L' = L → h' = h → W p l e R s m args below meth c H locs cells slots Q (F0 m pc' ls st')) : W p l e R s m args below meth c H locs cells slots Q (F0 m pc ls st) := by
  obtain ⟨hx, hb, hml, hown, hts, hK, -⟩ := X
  unfold ai_getf at he
  split at he
  · split at he
    · rename_i a rest cI f hy
      split at he
      · rename_i k9 hf
        obtain ⟨rfl, rfl, rfl, rfl⟩ := ai_nx_inv he
        have hF := ai_fT_ok hf
        unfold ai_rd at hy
        split at hy
        · rename_i y hy'
          cases hy
          obtain ⟨q0, hq0, -⟩ := ai_ob r hy'
          have hlt : cI < ai_ncl := (List.getElem?_eq_some_iff.mp hq0).1
          obtain ⟨q, ref, hq, hk9, hlink, hsame⟩ := hF.1 hlt
          obtain ⟨q', hq'⟩ := ai_clk cI hlt
          cases hq.symm.trans hq'.1
          have hsm : ∀ x, s.fieldFound? (q.2.1 k9).1 (q.2.1 k9).2.1 (q.2.1 k9).2.2.1 = some x → s.fieldFound? ref (q.2.1 k9).2.1 (q.2.1 k9).2.2.1 = some x := by
            rcases hsame with e | e
            · rw [e]; exact fun _ z => z
            · exact fun x z => u_same (hts _ e) x z
          have hv : ((List.range (ai_N cI)).map f)[k9]? = some (f k9) := ai_fs_at (by rw [ai_N_of hq]; exact hk9)
          rcases hlink with hl | ⟨host, hl, -⟩
          · exact va_get (D := D) (own := ai_cn (ai_mO k)) (ref := ref) (C := q.1) (T := q.2.1) (N := q.2.2) hx hb hts hq'.2.2.2.1 hown hK.1 (ai_P1 r hy') 0 rfl hq k9 hk9 (hts _ hl) hsm hv hd (kk rfl rfl)
          · exact va_getN (D := D) (own := ai_cn (ai_mO k)) (ref := ref) (C := q.1) (T := q.2.1) (N := q.2.2) hx hb hts hq'.2.2.2.1 hown hK.1 (ai_P1 r hy') 0 rfl hq k9 hk9 (va_Nw.use rfl (hK.2.1 _ hl)) hsm hv hd (kk rfl rfl)
        · obtain ⟨hlt, hold⟩ := hK.2.2.2.2.2.2.2.2.2.1 _ _ hy
          obtain ⟨rfl, hv1, hv2, -⟩ := hold
          obtain ⟨-, hm⟩ := hF
          obtain ⟨x, hxm, hxe⟩ := List.mem_map.mp hm
          simp only [Prod.mk.injEq] at hxe
          obtain ⟨-, e1, e2, e3⟩ := hxe
          have hs9 := ai_ft_str (ai_mO k) x hxm (by rw [e2]; decide)
          rw [e1, e3] at hs9
          rcases hs9 with ⟨rfl, hl⟩ | ⟨rfl, hl⟩
          · obtain ⟨cf, k0, fi, f0, cell, h1, h2, h3, h4, h5, h6⟩ := hv1.kept (ai_kept_old hK r)
            exact W.getf hx hb hown (hts _ hl) h1 h2 h3 h4 (v := f 0) h5 rfl rfl hd (kk rfl rfl)
          · obtain ⟨cf, k0, fi, f0, cell, h1, h2, h3, h4, h5, h6⟩ := hv2.kept (ai_kept_old hK r)
            exact W.getf hx hb hown (hts _ hl) h1 h2 h3 h4 (v := f 1) h5 rfl rfl hd (kk rfl rfl)
      · cases he
    · cases he
  · cases he
/-- a class's slots are apart -/
theorem ai_apart {cI : Nat} {q : vw_C} (hts : ∀ w ∈ lw_all, w.before args s = true) (hK : ai_K G D dA B H0 s) (hq : ai_CLK cI q) : ∀ x y, x < q.2.2 → y < q.2.2 → x ≠ y → (D.2 cI) x ≠ (D.2 cI) y := by
  intro x y hx hy hne
  obtain ⟨hS, hfc, -⟩ := hK.1.1 cI _ hq.1
  obtain ⟨cfa, kfa, fia, fa, hia, ea⟩ := hS x hx
  obtain ⟨cfb, kfb, fib, fb, hib, eb⟩ := hS y hy
  rw [← ea, ← eb]
  rcases hq.2.2.2.2.1 x hx y hy hne with hn | hn
  · refine u_apart (u_lays hts hq.2.2.2.1 hx) (u_lays hts hq.2.2.2.1 hy) hia hib ?_
    rw [(State.fieldFound?_type hia (hq.2.2.1 x hx)).1, (State.fieldFound?_type hib (hq.2.2.1 y hy)).1]
    exact hn
  · exact ai_apart2 hfc (u_lays hts hq.2.2.2.1 hx) (u_lays hts hq.2.2.2.1 hy) hia hib hn
end AIZ

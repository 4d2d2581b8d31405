/-! SOUNDNESS, 9: one step -/
set_option maxRecDepth 100000
section AIT
variable {p : Program} {l : Launch} {e : Env} {R : Room} {s : State} {m : MethodId} {args : Array Value} {below : List Frame} {meth : Method} {c : Code} {H : Heap} {locs : List Loc} {cells slots : Nat} {Q : State → Prop}
variable {G : ai_G} {D : va_G} {dA : Nat → ClassId} {B : Nat} {H0 : Heap} {k pc pc' : Nat} {L L' : ai_L} {ls : Array Slot} {st st' : List Value} {h h' : ai_H}
/-- ldc_w of a String constant -/
theorem ai_ldcwS {T : State} (X : Stand p l e R s m args below meth c T locs cells slots) (hexec : p.tables.exec = Jvm.exec) {own text : String} {index : Nat} {a : Addr} (hown : s.vm.findClass own = some m.cls)
    (hconst : (Cond.stringRef own index text).before args s = true) (hev : (Term.string own index).eval args s none [] s = some (.ref a)) {g : JFrame} (hg : g.method = m) (hdg : decode c.code g.pc = .ok (.ldc_w index, 3)) :
    ∀ target, Steps p.tables e below (T.setTop { g with pc := g.pc + 3, stack := .ref a :: g.stack }) target → Steps p.tables e below (T.setTop g) target := by
  obtain ⟨k, cf, i, a', hk, hcf, hcp, -, hr, hev'⟩ := Cond.stringRef_spec hown hconst
  cases hev.symm.trans hev'
  obtain ⟨k', hk', he⟩ := X.warmed.alike.2.2 _ _ hk
  have hr' : k'.resolved[index]? = some (some (.string a)) := by
    rcases X.warmed.entry hk hk' index with h | ⟨h, -⟩
    · rw [h]; exact hr
    · rw [hr] at h; cases h
  intro target hrest
  subst hg
  jvm_step X.here [hexec, hdg, ldc_w.wp_string (e := e) (s := T) (f := g) X.here.top hk' (by rw [he]; exact hcf) hcp hr']
  exact hrest
theorem ai_pushv_inv {v : Option Value} {n : Nat} (he : ai_pushv v n pc L st h = some (.inl (pc', L', st', h'))) : ∃ w, v = some w ∧ pc' = pc + n ∧ L' = L ∧ st' = w :: st ∧ h' = h := by
  unfold ai_pushv at he
  split at he
  · obtain ⟨h1, h2, h3, h4⟩ := ai_nx_inv he
    exact ⟨_, rfl, h1, h2, h3, h4⟩
  · cases he
theorem ai_lT_ok {o i : Nat} {v : Value} (he : ai_lT G o i = some v) : (∃ x : Int32, v = .int x ∧ Cond.constant (ai_cn o) i x ∈ lw_all) ∨ (v = G.1 ai_kMirror ∧ Cond.classLink (ai_cn o) i "[Ljava/lang/Object;" ∈ lw_all ∧ ai_mrI o i = true) ∨ (ai_cn o = "BoardCrossing$Reade\x72" ∧ ∃ (j : Nat) (tx : String), v = G.1 j ∧ (j, i, tx) ∈ ai_strs) := by
  unfold ai_lT at he
  split at he
  · rename_i x hf
    obtain ⟨hm, hx⟩ := ai_find_mem hf
    simp only [beq_iff_eq] at hx
    subst hx
    cases he
    exact Or.inl ⟨_, rfl, ai_li_ok o x hm⟩
  · cases hf : (ai_lsl o).find? fun e => e.1 == i with
    | none => rw [hf] at he; cases he
    | some x =>
      rw [hf] at he
      obtain ⟨hm, hx⟩ := ai_find_mem hf
      simp only [beq_iff_eq] at hx
      subst hx
      have : G.1 x.2 = v := Option.some.inj he
      subst this
      rcases ai_ls_ok o x hm with ⟨h1, h2⟩ | ⟨h1, tx, h2⟩
      · exact Or.inr (Or.inl ⟨by rw [h1], h2, List.any_eq_true.mpr ⟨x, hm, by simp [h1]⟩⟩)
      · exact Or.inr (Or.inr ⟨h1, x.2, tx, rfl, h2⟩)
theorem ai_x_ldc {len : Nat} (X : ai_X G D dA B H0 p s m args meth c k) {i : Nat} (hd : (len = 2 ∧ decode (ai_mC k) pc = .ok (.ldc i, 2)) ∨ (len = 3 ∧ decode (ai_mC k) pc = .ok (.ldc_w i, 3) ∧ ¬ ai_mrI (ai_mO k) i = true))
    (he : ai_pushv (ai_lT G (ai_mO k) i) len pc L st h = some (.inl (pc', L', st', h'))) (kk : L' = L → h' = h → W p l e R s m args below meth c H locs cells slots Q (F0 m pc' ls st')) : W p l e R s m args below meth c H locs cells slots Q (F0 m pc ls st) := by
  obtain ⟨hx, hb, hml, hown, hts, hK, -⟩ := X
  obtain ⟨v, hv, rfl, rfl, rfl, rfl⟩ := ai_pushv_inv he
  have kk := kk rfl rfl
  rcases ai_lT_ok hv with ⟨x, rfl, hw⟩ | ⟨rfl, hw, hmr⟩ | ⟨ho, j, tx, rfl, hm⟩
  · rcases hd with ⟨rfl, hd⟩ | ⟨rfl, hd, -⟩
    · exact lv_ldc hx hb hown (hts _ hw) hd kk
    · exact lv_ldcw hx hb hown (hts _ hw) hd kk
  · obtain ⟨mi, hmi, hM⟩ := hK.2.2.2.2.2.2.2.2.1
    rw [hmi] at kk
    rcases hd with ⟨rfl, hd⟩ | ⟨rfl, hd, hno⟩
    · exact va_ldcM hx hb hown (hts _ hw) hM hd kk
    · exact absurd hmr hno
  · obtain ⟨a, ha, hr⟩ := hK.2.2.2.2.2.2.2.1 _ hm
    have ha : G.1 j = .ref a := ha
    rw [ha] at kk
    rw [ho] at hown
    rcases hd with ⟨rfl, hd⟩ | ⟨rfl, hd, -⟩
    · exact va_ldcS hx hb hown hr hd kk
    · intro T hT Y
      obtain ⟨t, a1, b1⟩ := kk T hT Y
      exact ⟨t, ai_ldcwS Y hx hown (text := tx) (a := a) hr.1 hr.2 (g := F0 m pc ls st) rfl (by rw [hb]; exact hd) t a1, b1⟩
theorem ai_l2T_ok {o i : Nat} {v : Value} (he : ai_l2T o i = some v) : ∃ x : Int64, v = .long x ∧ Cond.constantLong (ai_cn o) i x ∈ lw_all := by
  unfold ai_l2T at he
  cases hf : (ai_l2l o).find? fun e => e.1 == i with
  | none => rw [hf] at he; cases he
  | some x =>
    rw [hf] at he
    obtain ⟨hm, hx⟩ := ai_find_mem hf
    simp only [beq_iff_eq] at hx
    subst hx
    cases he
    exact ⟨_, rfl, ai_l2_ok o x hm⟩
theorem ai_gT_ok {o i : Nat} {v : Value} (he : ai_gT G o i = some v) : ∃ (j : Nat) (C n d : String), v = G.1 j ∧ (j, C, n, d) ∈ ai_sts ∧ Cond.fieldLink (ai_cn o) i C n d ∈ lw_all := by
  unfold ai_gT at he
  cases hf : (ai_gtl o).find? fun e => e.1 == i with
  | none => rw [hf] at he; cases he
  | some x =>
    rw [hf] at he
    obtain ⟨hm, hx⟩ := ai_find_mem hf
    simp only [beq_iff_eq] at hx
    subst hx
    have : G.1 x.2 = v := Option.some.inj he
    subst this
    obtain ⟨C, n, d, h1, h2⟩ := ai_gt_ok o x hm
    exact ⟨x.2, C, n, d, rfl, h1, h2⟩
theorem ai_x_gets (X : ai_X G D dA B H0 p s m args meth c k) (r : ai_rel G D dA B H0 h H) {i : Nat} (hd : decode (ai_mC k) pc = .ok (.getstatic i, 3))
    (he : ai_pushv (ai_gT G (ai_mO k) i) 3 pc L st h = some (.inl (pc', L', st', h'))) (kk : L' = L → h' = h → W p l e R s m args below meth c H locs cells slots Q (F0 m pc' ls st')) : W p l e R s m args below meth c H locs cells slots Q (F0 m pc ls st) := by
  obtain ⟨hx, hb, hml, hown, hts, hK, -⟩ := X
  obtain ⟨v, hv, rfl, rfl, rfl, rfl⟩ := ai_pushv_inv he
  obtain ⟨j, C, n, d, rfl, hm, hl⟩ := ai_gT_ok hv
  have hZ := hK.2.2.2.2.2.2.1 _ hm
  obtain ⟨cf, kf, fi, f, a, cell, h1, h2, h3, h4, h5, h6, h7, h8⟩ := hZ
  exact W.gets hx hb hown (hts _ hl) h1 h2 h3 h4 (by rw [ai_kept_old hK r a (Array.getElem?_eq_some_iff.mp h5).1 h8]; exact h5) (fun e => by rw [e] at h6; cases h6) h7 rfl hd (kk rfl rfl)
/-- a constructor of Wrong, called on a fresh one, leaves its own two fields as they are -/
def ai_WI (l : Launch) (G : ai_G) (D : va_G) (dA : Nat → ClassId) (B : Nat) (H0 : Heap) : Prop :=
  ∀ {p : Program} {e : Env} {R : Room} {s : State} {m : MethodId} {args : Array Value} {below : List Frame} {meth : Method} {c : Code} {H : Heap} {locs : List Loc} {cells slots : Nat} {Q : State → Prop} {k pc i a : Nat} {ls : Array Slot} {rest : List Value} {h : ai_H} {f : Nat → Value},
    ai_X G D dA B H0 p s m args meth c k → ls.size = ai_mL k → ai_rel G D dA B H0 h H → (∀ z ∈ locs, B ≤ z.base) → 9 ≤ R.frames → 300 ≤ R.locals → ai_wI (ai_mO k) i = true → decode (ai_mC k) pc = .ok (.invokespecial i, 3) → h.1 a = some (.inr (ai_cWrong, f)) → ai_wt rest ≤ 8 →
    (∀ H' locs', ai_rel G D dA B H0 h H' → (∀ z ∈ locs', B ≤ z.base) → W p l e R s m args below meth c H' locs' cells slots Q (F0 m (pc + 3) ls rest)) → W p l e R s m args below meth c H locs cells slots Q (F0 m pc ls (.ref a :: rest))
theorem ai_cat_ok {v : Value} (h : ai_cat1 v = true) : v.category = 1 := by
  cases v <;> first | rfl | (simp [ai_cat1] at h)
theorem ai_any2 {l9 : List (Nat × Nat)} {o i : Nat} (h : (l9.any fun e => e.1 == o && e.2 == i) = true) : (o, i) ∈ l9 := by
  obtain ⟨x, hm, hx⟩ := List.any_eq_true.mp h
  simp only [Bool.and_eq_true, beq_iff_eq] at hx
  obtain ⟨e1, e2⟩ := hx
  rw [← e1, ← e2]
  exact hm
theorem ai_inv_no {o j kd n9 : Nat} : ¬ ai_inv G o j kd n9 pc L st h = some (.inl (pc', L', st', h')) := by
  intro he
  unfold ai_inv at he
  split at he
  · cases he
  · split at he
    · cases he
    · split at he
      · cases he
      · split at he <;> simp at he
/-- a step that is no call and no end -/
theorem ai_sx (hWI : ai_WI l G D dA B H0) (X : ai_X G D dA B H0 p s m args meth c k) {i : Instr} {len : Nat} (hd : decode (ai_mC k) pc = .ok (i, len)) (hlk : ai_lok i len = true) (he : ai_ex G k i pc L st h = some (.inl (pc', L', st', h'))) (hl : ai_lv L ls) (hLk : L.length = ai_mL k) (r : ai_rel G D dA B H0 h H) (hlo : ∀ z ∈ locs, B ≤ z.base) (hRf : 9 ≤ R.frames) (hRl : 300 ≤ R.locals) (hc : cells + (h'.2.1 - h.2.1) ≤ R.cells) (hs : slots + (h'.2.2 - h.2.2) ≤ R.slots)
    (kk : ∀ ls' H' locs', ai_lv L' ls' → ai_rel G D dA B H0 h' H' → (∀ z ∈ locs', B ≤ z.base) → W p l e R s m args below meth c H' locs' (cells + (h'.2.1 - h.2.1)) (slots + (h'.2.2 - h.2.2)) Q (F0 m pc' ls' st')) : W p l e R s m args below meth c H locs cells slots Q (F0 m pc ls st) := by
  have k0 : L' = L → h' = h → W p l e R s m args below meth c H locs cells slots Q (F0 m pc' ls st') := by
    intro e1 e2
    subst e1; subst e2
    have := kk ls H locs hl r hlo
    simpa only [Nat.sub_self, Nat.add_zero] using this
  have k1 : ∀ ls', ai_lv L' ls' → h' = h → W p l e R s m args below meth c H locs cells slots Q (F0 m pc' ls' st') := by
    intro ls' h1 e2
    subst e2
    have := kk ls' H locs h1 r hlo
    simpa only [Nat.sub_self, Nat.add_zero] using this
  have k2 : ∀ H' locs', L' = L → h'.2 = h.2 → ai_rel G D dA B H0 h' H' → (∀ z ∈ locs', B ≤ z.base) → W p l e R s m args below meth c H' locs' cells slots Q (F0 m pc' ls st') := by
    intro H' locs' e1 e2 h1 h2
    subst e1
    have := kk ls H' locs' hl h1 h2
    rw [e2] at this
    simpa only [Nat.sub_self, Nat.add_zero] using this
  have k3 : ∀ H', L' = L → ai_rel G D dA B H0 h' H' → W p l e R s m args below meth c H' locs (cells + (h'.2.1 - h.2.1)) (slots + (h'.2.2 - h.2.2)) Q (F0 m pc' ls st') := by
    intro H' e1 h1
    subst e1
    exact kk ls H' locs hl h1 hlo
  have hsz : ls.size = ai_mL k := hl.1.trans hLk
  obtain ⟨hx, hb, hml, hown, hts, hK, hret, hlocks, hini⟩ := id X
  have hmax : c.maxLocals = ls.size := hml.trans hsz.symm
  cases i with
  | aconst_null =>
    obtain rfl : len = 1 := by simpa [ai_lok] using hlk
    obtain ⟨rfl, rfl, rfl, rfl⟩ := ai_nx_inv he
    exact lv_null hx hb hd (k0 rfl rfl)
  | iconst n =>
    obtain rfl : len = 1 := by simpa [ai_lok] using hlk
    obtain ⟨rfl, rfl, rfl, rfl⟩ := ai_nx_inv he
    exact lv_iconst hx hb hd rfl (k0 rfl rfl)
  | lconst n =>
    obtain rfl : len = 1 := by simpa [ai_lok] using hlk
    obtain ⟨rfl, rfl, rfl, rfl⟩ := ai_nx_inv he
    exact lv_lconst hx hb hd rfl (k0 rfl rfl)
  | bipush n =>
    obtain rfl : len = 2 := by simpa [ai_lok] using hlk
    obtain ⟨rfl, rfl, rfl, rfl⟩ := ai_nx_inv he
    exact lv_bipush hx hb hd rfl (k0 rfl rfl)
  | sipush n =>
    obtain rfl : len = 3 := by simpa [ai_lok] using hlk
    obtain ⟨rfl, rfl, rfl, rfl⟩ := ai_nx_inv he
    exact lv_sipush hx hb hd rfl (k0 rfl rfl)
  | ldc j =>
    obtain rfl : len = 2 := by simpa [ai_lok] using hlk
    exact ai_x_ldc X (Or.inl ⟨rfl, hd⟩) he k0
  | ldc_w j =>
    obtain rfl : len = 3 := by simpa [ai_lok] using hlk
    simp only [ai_ex] at he
    split at he
    · cases he
    · rename_i hno
      exact ai_x_ldc X (Or.inr ⟨rfl, hd, hno⟩) he k0
  | ldc2_w j =>
    obtain rfl : len = 3 := by simpa [ai_lok] using hlk
    obtain ⟨v, hv, rfl, rfl, rfl, rfl⟩ := ai_pushv_inv he
    obtain ⟨x, rfl, hw⟩ := ai_l2T_ok hv
    exact lv_ldc2 hx hb hown (hts _ hw) hd (k0 rfl rfl)
  | aload j =>
    obtain rfl : len = 2 := by simpa [ai_lok] using hlk
    exact ai_x_lda hl (fun x q kw => lv_aload hx hb hd q kw) (fun q kw => lv_aloadN hx hb hd q kw) he k0
  | aload_n j =>
    obtain rfl : len = 1 := by simpa [ai_lok] using hlk
    exact ai_x_lda hl (fun x q kw => lv_aload_n hx hb hd rfl q kw) (fun q kw => lv_aload_nN hx hb hd rfl q kw) he k0
  | iload j =>
    obtain rfl : len = 2 := by simpa [ai_lok] using hlk
    exact ai_x_ldi hl (fun x q kw => lv_iload hx hb hd q kw) he k0
  | iload_n j =>
    obtain rfl : len = 1 := by simpa [ai_lok] using hlk
    exact ai_x_ldi hl (fun x q kw => lv_iload_n hx hb hd rfl q kw) he k0
  | lload j =>
    obtain rfl : len = 2 := by simpa [ai_lok] using hlk
    exact ai_x_ldl hl (fun x q kw => lv_lload hx hb hd q kw) he k0
  | lload_n j =>
    obtain rfl : len = 1 := by simpa [ai_lok] using hlk
    exact ai_x_ldl hl (fun x q kw => lv_lload_n hx hb hd rfl q kw) he k0
  | astore j =>
    obtain rfl : len = 2 := by simpa [ai_lok] using hlk
    exact ai_x_sta hl (fun x rest q kw => lv_astore hx hb hd (ai_lv_has hl) q rfl kw) (fun rest q kw => lv_astoreN hx hb hd (ai_lv_has hl) q rfl kw) he k1
  | astore_n j =>
    obtain rfl : len = 1 := by simpa [ai_lok] using hlk
    exact ai_x_sta hl (fun x rest q kw => lv_astore_n hx hb hd rfl (ai_lv_has hl) q rfl kw) (fun rest q kw => lv_astore_nN hx hb hd rfl (ai_lv_has hl) q rfl kw) he k1
  | istore j =>
    obtain rfl : len = 2 := by simpa [ai_lok] using hlk
    exact ai_x_sti hl (fun x rest q kw => lv_istore hx hb hd (ai_lv_has hl) q rfl kw) he k1
  | istore_n j =>
    obtain rfl : len = 1 := by simpa [ai_lok] using hlk
    exact ai_x_sti hl (fun x rest q kw => lv_istore_n hx hb hd rfl (ai_lv_has hl) q rfl kw) he k1
  | lstore j =>
    obtain rfl : len = 2 := by simpa [ai_lok] using hlk
    exact ai_x_stl hl (fun x rest q kw => lv_lstore hx hb hd (ai_lv_has hl) q rfl kw) he k1
  | lstore_n j =>
    obtain rfl : len = 1 := by simpa [ai_lok] using hlk
    exact ai_x_stl hl (fun x rest q kw => lv_lstore_n hx hb hd rfl (ai_lv_has hl) q rfl kw) he k1
  | iinc j n =>
    obtain rfl : len = 3 := by simpa [ai_lok] using hlk
    simp only [ai_ex, ai_iinc] at he
    split at he
    · rename_i x hj
      split at he
      · rename_i hi
        obtain ⟨rfl, rfl, rfl, rfl⟩ := ai_nx_inv he
        obtain ⟨q, hq⟩ := ai_toL_at hj
        exact lv_iinc hx hb hd (ai_lv_has hl) hq rfl hi rfl (fun ls' hh => k1 ls' (ai_lv_put1 hh) rfl)
      · cases he
    · cases he
  | iadd =>
    obtain rfl : len = 1 := by simpa [ai_lok] using hlk
    exact ai_x_ib (fun x y rest kw => lv_iadd hx hb hd kw) he k0
  | isub =>
    obtain rfl : len = 1 := by simpa [ai_lok] using hlk
    exact ai_x_ib (fun x y rest kw => lv_isub hx hb hd kw) he k0
  | imul =>
    obtain rfl : len = 1 := by simpa [ai_lok] using hlk
    exact ai_x_ib (fun x y rest kw => lv_imul hx hb hd kw) he k0
  | iand =>
    obtain rfl : len = 1 := by simpa [ai_lok] using hlk
    exact ai_x_ib (fun x y rest kw => lv_iand hx hb hd kw) he k0
  | ior =>
    obtain rfl : len = 1 := by simpa [ai_lok] using hlk
    exact ai_x_ib (fun x y rest kw => lv_ior hx hb hd kw) he k0
  | ixor =>
    obtain rfl : len = 1 := by simpa [ai_lok] using hlk
    exact ai_x_ib (fun x y rest kw => lv_ixor hx hb hd kw) he k0
  | ishl =>
    obtain rfl : len = 1 := by simpa [ai_lok] using hlk
    exact ai_x_ib (fun x y rest kw => lv_ishl hx hb hd kw) he k0
  | ishr =>
    obtain rfl : len = 1 := by simpa [ai_lok] using hlk
    exact ai_x_ib (fun x y rest kw => lv_ishr hx hb hd kw) he k0
  | iushr =>
    obtain rfl : len = 1 := by simpa [ai_lok] using hlk
    exact ai_x_ib (fun x y rest kw => lv_iushr hx hb hd rfl kw) he k0
  | idiv =>
    obtain rfl : len = 1 := by simpa [ai_lok] using hlk
    exact ai_x_id (fun x y rest hy kw => lv_idiv hx hb hd hy kw) he k0
  | irem =>
    obtain rfl : len = 1 := by simpa [ai_lok] using hlk
    exact ai_x_id (fun x y rest hy kw => lv_irem hx hb hd hy kw) he k0
  | ineg =>
    obtain rfl : len = 1 := by simpa [ai_lok] using hlk
    exact ai_x_iu (fun x rest kw => lv_ineg hx hb hd kw) he k0
  | i2b =>
    obtain rfl : len = 1 := by simpa [ai_lok] using hlk
    exact ai_x_iu (fun x rest kw => lv_i2b hx hb hd rfl kw) he k0
  | i2c =>
    obtain rfl : len = 1 := by simpa [ai_lok] using hlk
    exact ai_x_iu (fun x rest kw => lv_i2c hx hb hd rfl kw) he k0
  | i2l =>
    obtain rfl : len = 1 := by simpa [ai_lok] using hlk
    simp only [ai_ex] at he
    split at he
    · obtain ⟨rfl, rfl, rfl, rfl⟩ := ai_nx_inv he
      exact lv_i2l hx hb hd rfl (k0 rfl rfl)
    · cases he
  | lshl =>
    obtain rfl : len = 1 := by simpa [ai_lok] using hlk
    simp only [ai_ex] at he
    split at he
    · obtain ⟨rfl, rfl, rfl, rfl⟩ := ai_nx_inv he
      exact lv_lshl hx hb hd rfl (k0 rfl rfl)
    · cases he
  | lor =>
    obtain rfl : len = 1 := by simpa [ai_lok] using hlk
    simp only [ai_ex] at he
    split at he
    · obtain ⟨rfl, rfl, rfl, rfl⟩ := ai_nx_inv he
      exact lv_lor hx hb hd (k0 rfl rfl)
    · cases he
  | lcmp =>
    obtain rfl : len = 1 := by simpa [ai_lok] using hlk
    simp only [ai_ex] at he
    split at he
    · obtain ⟨rfl, rfl, rfl, rfl⟩ := ai_nx_inv he
      exact W.lcmp hx hb hd (k0 rfl rfl)
    · cases he
  | dup =>
    obtain rfl : len = 1 := by simpa [ai_lok] using hlk
    simp only [ai_ex] at he
    split at he
    · split at he
      · rename_i hv
        obtain ⟨rfl, rfl, rfl, rfl⟩ := ai_nx_inv he
        exact lv_dup hx hb hd (ai_cat_ok hv) (k0 rfl rfl)
      · cases he
    · cases he
  | pop =>
    obtain rfl : len = 1 := by simpa [ai_lok] using hlk
    simp only [ai_ex] at he
    split at he
    · split at he
      · rename_i hv
        obtain ⟨rfl, rfl, rfl, rfl⟩ := ai_nx_inv he
        exact lv_pop hx hb hd (ai_cat_ok hv) (k0 rfl rfl)
      · cases he
    · cases he
  | dup_x1 =>
    obtain rfl : len = 1 := by simpa [ai_lok] using hlk
    simp only [ai_ex] at he
    split at he
    · split at he
      · rename_i hv
        simp only [Bool.and_eq_true] at hv
        obtain ⟨rfl, rfl, rfl, rfl⟩ := ai_nx_inv he
        exact lv_dup_x1 hx hb hd (ai_cat_ok hv.1) (ai_cat_ok hv.2) (k0 rfl rfl)
      · cases he
    · cases he
  | dup2 =>
    obtain rfl : len = 1 := by simpa [ai_lok] using hlk
    simp only [ai_ex] at he
    split at he
    · split at he
      · rename_i hv
        simp only [Bool.and_eq_true] at hv
        obtain ⟨rfl, rfl, rfl, rfl⟩ := ai_nx_inv he
        exact lv_dup2_11 hx hb hd (ai_cat_ok hv.1) (ai_cat_ok hv.2) (k0 rfl rfl)
      · cases he
    · cases he
  | goto off =>
    obtain rfl : len = 3 := by simpa [ai_lok] using hlk
    simp only [ai_ex] at he
    cases ht : ai_jp pc off with
    | none => rw [ht] at he; cases he
    | some t =>
      rw [ht] at he
      obtain ⟨rfl, rfl, rfl, rfl⟩ := ai_nx_inv he
      exact lv_goto hx hb hd (ai_jp_inv ht) (k0 rfl rfl)
  | if_icmp cd off =>
    obtain rfl : len = 3 := by simpa [ai_lok] using hlk
    simp only [ai_ex] at he
    split at he
    · cases cd with
      | eq => exact ai_x_go1 (fun t ht k1 k2 => lv_icmp_eq hx hb hd ht (fun z => k1 (decide_eq_true z)) (fun z => k2 (decide_eq_false z))) he k0
      | ne => exact ai_x_go1 (fun t ht k1 k2 => lv_icmp_ne hx hb hd ht (fun z => k1 (decide_eq_true z)) (fun z => k2 (decide_eq_false (fun q => q z)))) he k0
      | lt => exact ai_x_go1 (fun t ht k1 k2 => lv_icmp_lt hx hb hd ht (fun z => k1 (decide_eq_true z)) (fun z => k2 (decide_eq_false z))) he k0
      | ge => exact ai_x_go1 (fun t ht k1 k2 => lv_icmp_ge hx hb hd ht (fun z => k1 (decide_eq_true z)) (fun z => k2 (decide_eq_false z))) he k0
      | gt => exact ai_x_go1 (fun t ht k1 k2 => lv_icmp_gt hx hb hd ht (fun z => k1 (decide_eq_true z)) (fun z => k2 (decide_eq_false z))) he k0
      | le => exact ai_x_go1 (fun t ht k1 k2 => lv_icmp_le hx hb hd ht (fun z => k1 (decide_eq_true z)) (fun z => k2 (decide_eq_false z))) he k0
    · cases he
  | ifCond cd off =>
    obtain rfl : len = 3 := by simpa [ai_lok] using hlk
    simp only [ai_ex] at he
    split at he
    · cases cd with
      | eq => exact ai_x_go1 (fun t ht k1 k2 => lv_if_eq hx hb hd ht (fun z => k1 (decide_eq_true z)) (fun z => k2 (decide_eq_false z))) he k0
      | ne => exact ai_x_go1 (fun t ht k1 k2 => lv_if_ne hx hb hd ht (fun z => k1 (decide_eq_true z)) (fun z => k2 (decide_eq_false (fun q => q z)))) he k0
      | lt => exact ai_x_go1 (fun t ht k1 k2 => lv_if_lt hx hb hd ht (fun z => k1 (decide_eq_true z)) (fun z => k2 (decide_eq_false z))) he k0
      | ge => exact ai_x_go1 (fun t ht k1 k2 => lv_if_ge hx hb hd ht (fun z => k1 (decide_eq_true z)) (fun z => k2 (decide_eq_false z))) he k0
      | gt => exact ai_x_go1 (fun t ht k1 k2 => lv_if_gt hx hb hd ht (fun z => k1 (decide_eq_true z)) (fun z => k2 (decide_eq_false z))) he k0
      | le => exact ai_x_go1 (fun t ht k1 k2 => lv_if_le hx hb hd ht (fun z => k1 (decide_eq_true z)) (fun z => k2 (decide_eq_false z))) he k0
    · cases he
  | if_acmp cd off =>
    obtain rfl : len = 3 := by simpa [ai_lok] using hlk
    simp only [ai_ex, ai_acmp] at he
    split at he
    · rename_i y x rest
      split at he
      · exact ai_x_go1 (fun t ht k1 k2 => lv_acmp_eq (rx := some x) (ry := some y) hx hb hd ht (fun z => k1 (decide_eq_true (Option.some.inj z))) (fun z => k2 (decide_eq_false (fun q => z (congrArg some q))))) he k0
      · exact ai_x_go1 (b := decide (¬ x = y)) (fun t ht k1 k2 => lv_acmp_ne (rx := some x) (ry := some y) hx hb hd ht (fun z => k1 (decide_eq_true (fun q => z (congrArg some q)))) (fun z => k2 (decide_eq_false (fun q => q (Option.some.inj z))))) he k0
    · cases he
  | ifnull off =>
    obtain rfl : len = 3 := by simpa [ai_lok] using hlk
    simp only [ai_ex, ai_nul] at he
    split at he
    · exact ai_x_go1 (fun t ht k1 k2 => lv_ifnull hx hb hd (k2 rfl)) he k0
    · exact ai_x_go1 (fun t ht k1 k2 => lv_ifnullN hx hb hd ht (k1 rfl)) he k0
    · cases he
  | ifnonnull off =>
    obtain rfl : len = 3 := by simpa [ai_lok] using hlk
    simp only [ai_ex, ai_nul] at he
    split at he
    · exact ai_x_go1 (fun t ht k1 k2 => lv_ifnonnull hx hb hd ht (k1 rfl)) he k0
    · exact ai_x_go1 (fun t ht k1 k2 => lv_ifnonnullN hx hb hd (k2 rfl)) he k0
    · cases he
  | tableswitch dd lo hi offs =>
    simp only [ai_ex] at he
    split at he
    · rename_i x rest
      cases ho : ai_tsw dd lo hi offs x.toInt with
      | none => rw [ho] at he; cases he
      | some off =>
        rw [ho, Option.bind_some] at he
        cases ht : ai_jp pc off with
        | none => rw [ht] at he; cases he
        | some t =>
          rw [ht, Option.bind_some] at he
          obtain ⟨rfl, rfl, rfl, rfl⟩ := ai_nx_inv he
          unfold ai_tsw at ho
          split at ho
          · rename_i hq
            cases ho
            exact lv_tableOut hx hb hd hq (ai_jp_inv ht) (k0 rfl rfl)
          · rename_i hq
            exact lv_tableIn hx hb hd (fun z => hq (Or.inl z)) (fun z => hq (Or.inr z)) ho (ai_jp_inv ht) (k0 rfl rfl)
    · cases he
  | lookupswitch dd ps =>
    simp only [ai_ex] at he
    split at he
    · split at he
      · rename_i hp
        cases ht : ai_jp pc (Op.lookupswitch.offset ps.toList dd (Int32.toInt _)) with
        | none => rw [ht] at he; cases he
        | some t =>
          rw [ht, Option.bind_some] at he
          obtain ⟨rfl, rfl, rfl, rfl⟩ := ai_nx_inv he
          exact lv_lookup hx hb hd hp rfl (ai_jp_inv ht) (k0 rfl rfl)
      · cases he
    · cases he
  | iaload =>
    obtain rfl : len = 1 := by simpa [ai_lok] using hlk
    refine ai_x_aldi (ok := fun t => decide (t = 0)) (fun t ht => by have := of_decide_eq_true ht; omega) hK r (fun a t i scr v rest ht q1 q2 q3 q4 q5 kw => ?_) he k0
    obtain rfl : t = 0 := of_decide_eq_true ht
    exact W.iald hx hb q1 q2 q3 q4 q5 rfl rfl hd kw
  | baload =>
    obtain rfl : len = 1 := by simpa [ai_lok] using hlk
    refine ai_x_aldi (ok := fun t => decide (t = 1) || decide (t = 2)) (fun t ht => by simp at ht; omega) hK r (fun a t i scr v rest ht q1 q2 q3 q4 q5 kw => ?_) he k0
    simp only [Bool.or_eq_true, decide_eq_true_eq] at ht
    rcases ht with rfl | rfl
    · exact W.zald hx hb q1 q2 q3 q4 q5 rfl rfl hd kw
    · exact W.bald hx hb q1 q2 q3 q4 q5 rfl rfl hd kw
  | laload =>
    obtain rfl : len = 1 := by simpa [ai_lok] using hlk
    exact ai_x_aldl hK r hx hb hd he k0
  | aaload =>
    obtain rfl : len = 1 := by simpa [ai_lok] using hlk
    exact ai_x_alda hK r hx hb hd he k0
  | iastore =>
    obtain rfl : len = 1 := by simpa [ai_lok] using hlk
    refine ai_x_asti (ok := fun t => decide (t = 0)) (fun t ht => by have := of_decide_eq_true ht; omega) hK r hlo (fun a t i x scr rest ht q1 q2 q3 q4 kw => ?_) he k2
    obtain rfl : t = 0 := of_decide_eq_true ht
    exact W.iast hx hb q1 q2 q3 q4 rfl rfl hd kw
  | bastore =>
    obtain rfl : len = 1 := by simpa [ai_lok] using hlk
    refine ai_x_asti (ok := fun t => decide (t = 1) || decide (t = 2)) (fun t ht => by simp at ht; omega) hK r hlo (fun a t i x scr rest ht q1 q2 q3 q4 kw => ?_) he k2
    simp only [Bool.or_eq_true, decide_eq_true_eq] at ht
    rcases ht with rfl | rfl
    · exact W.zast hx hb q1 q2 q3 q4 rfl rfl hd kw
    · exact W.bast hx hb q1 q2 q3 q4 rfl rfl hd kw
  | lastore =>
    obtain rfl : len = 1 := by simpa [ai_lok] using hlk
    exact ai_x_astl hK r hlo hx hb hd he k2
  | aastore =>
    obtain rfl : len = 1 := by simpa [ai_lok] using hlk
    exact ai_x_asta X r hlo hd he k2
  | arraylength =>
    obtain rfl : len = 1 := by simpa [ai_lok] using hlk
    exact ai_x_alen hK r hx hb hd he k0
  | getfield j =>
    obtain rfl : len = 3 := by simpa [ai_lok] using hlk
    exact ai_x_getf X r hd he k0
  | putfield j =>
    obtain rfl : len = 3 := by simpa [ai_lok] using hlk
    exact ai_x_putf X r hlo hd he k2
  | getstatic j =>
    obtain rfl : len = 3 := by simpa [ai_lok] using hlk
    exact ai_x_gets X r hd he k0
  | new j =>
    obtain rfl : len = 3 := by simpa [ai_lok] using hlk
    exact ai_x_new X r hlo hd he hc hs k3
  | newarray t =>
    obtain rfl : len = 2 := by simpa [ai_lok] using hlk
    simp only [ai_ex] at he
    split at he
    · exact ai_x_newa (t := 0) (by decide) rfl ai_w_ar_int (by decide) X r hd he hc hs k3
    · exact ai_x_newa (t := 1) (by decide) rfl ai_w_ar_boolean (by decide) X r hd he hc hs k3
    · exact ai_x_newa (t := 2) (by decide) rfl ai_w_ar_byte (by decide) X r hd he hc hs k3
    · exact ai_x_newa (t := 3) (by decide) rfl ai_w_ar_long (by decide) X r hd he hc hs k3
    · cases he
  | anewarray j =>
    obtain rfl : len = 3 := by simpa [ai_lok] using hlk
    exact ai_x_anew X r hd he hc hs k3
  | checkcast j =>
    obtain rfl : len = 3 := by simpa [ai_lok] using hlk
    exact ai_x_cast X r hd he k0
  | invokespecial j =>
    obtain rfl : len = 3 := by simpa [ai_lok] using hlk
    simp only [ai_ex, ai_spec] at he
    split at he
    · rename_i hoI
      have hw := ai_oI_ok _ (ai_any2 hoI)
      split at he
      · split at he
        · cases he
        · rename_i hwt
          obtain ⟨rfl, rfl, rfl, rfl⟩ := ai_nx_inv he
          exact W.objInit hx hb hown (hts _ hw) (hts _ ai_w_oi1) (hts _ ai_w_oi2) rfl hmax.symm rfl hd (by omega) (by show 2 * 0 + ai_wt _ + 12 ≤ _; omega) (k0 rfl rfl)
      · cases he
    · split at he
      · rename_i hwI
        split at he
        · split at he
          · rename_i cI f hy
            split at he
            · rename_i hcw
              obtain ⟨rfl, hwt⟩ := hcw
              obtain ⟨rfl, rfl, rfl, rfl⟩ := ai_nx_inv he
              exact hWI X hsz r hlo hRf hRl hwI hd hy (by omega) (fun H' locs' h1 h2 => k2 H' locs' rfl rfl h1 h2)
            · cases he
          · cases he
        · cases he
      · exact absurd he ai_inv_no
  | invokestatic j =>
    obtain rfl : len = 3 := by simpa [ai_lok] using hlk
    simp only [ai_ex, ai_stat] at he
    split at he
    · rename_i hcp
      exact ai_x_copy X hsz r hlo (by omega) (by omega) hcp hd he k2
    · split at he
      · rename_i hmx
        have hw := ai_mxI_ok _ (ai_any2 hmx)
        split at he
        · split at he
          · cases he
          · rename_i hwt
            obtain ⟨rfl, rfl, rfl, rfl⟩ := ai_nx_inv he
            exact va_mmax hx hb hmax hown (hts _ hw) (hts _ ai_w_max1) (hts _ ai_w_mi) (hts _ ai_w_max2) (by omega) (by show ai_wt _ + 13 ≤ _; omega) (by omega) (by omega) hd (k0 rfl rfl)
        · cases he
      · split at he
        · rename_i hmn
          have hw := ai_mnI_ok _ (ai_any2 hmn)
          split at he
          · split at he
            · cases he
            · rename_i hwt
              obtain ⟨rfl, rfl, rfl, rfl⟩ := ai_nx_inv he
              exact va_mmin hx hb hmax hown (hts _ hw) (hts _ ai_w_min1) (hts _ ai_w_mi) (hts _ ai_w_min2) (by omega) (by show ai_wt _ + 13 ≤ _; omega) (by omega) (by omega) hd (k0 rfl rfl)
          · cases he
        · split at he
          · rename_i hab
            have hw := ai_abI_ok _ (ai_any2 hab)
            split at he
            · split at he
              · cases he
              · rename_i hwt
                obtain ⟨rfl, rfl, rfl, rfl⟩ := ai_nx_inv he
                exact va_mabs hx hb hmax hown (hts _ hw) (hts _ ai_w_abs1) (hts _ ai_w_mi) (hts _ ai_w_abs2) (by omega) (by show ai_wt _ + 13 ≤ _; omega) (by omega) (by omega) hd (k0 rfl rfl)
            · cases he
          · exact absurd he ai_inv_no
  | invokevirtual j =>
    obtain rfl : len = 3 := by simpa [ai_lok] using hlk
    simp only [ai_ex, ai_virt] at he
    split at he
    · rename_i hgc
      have hw := ai_gcI_ok _ (ai_any2 hgc)
      split at he
      · split at he
        · rename_i n9 x9 hy
          split at he
          · cases he
          · rename_i hwt
            obtain ⟨q1, -⟩ := ai_new_arr hK r hy (by decide)
            have hra := ai_RA hK (t := 4) (by decide)
            obtain ⟨_, _, _, _, _, hra⟩ := hra
            obtain ⟨mi, hmi, hM⟩ := hK.2.2.2.2.2.2.2.2.1
            obtain ⟨rfl, rfl, rfl, rfl⟩ := ai_nx_inv he
            rw [hmi] at k0
            exact va_getC hx hb hmax hown (hts _ hw) (va_Nw.use rfl (hK.2.1 _ ai_w_gc4)) (hts _ ai_w_gc3) (hts _ ai_w_gc2) (hts _ ai_w_gc1) hM ⟨_, q1, rfl, hra⟩ (by omega) (by show ai_wt _ + 14 ≤ _; omega) hd (k0 rfl rfl)
        · cases he
      · cases he
    · exact absurd he ai_inv_no
  | invokeinterface j n =>
    exact absurd he (ai_inv_no (L := L))
  | ireturn => simp only [ai_ex] at he; split at he <;> (try split at he) <;> simp [ai_ret] at he
  | lreturn => simp only [ai_ex] at he; split at he <;> (try split at he) <;> simp [ai_ret] at he
  | areturn => simp only [ai_ex] at he; split at he <;> (try split at he) <;> simp [ai_ret] at he
  | return_ => simp only [ai_ex] at he; split at he <;> (try split at he) <;> simp [ai_ret] at he
  | athrow =>
    simp only [ai_ex] at he
    split at he
    · split at he
      · split at he <;> simp at he
      · cases he
    · cases he
  | _ => exact absurd he (by simp [ai_ex])
end AIT

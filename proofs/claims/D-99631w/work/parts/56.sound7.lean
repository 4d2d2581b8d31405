/-! SOUNDNESS, 7: new arrays, casts, references stored, copies -/
set_option maxRecDepth 100000
section AIV
variable {p : Program} {l : Launch} {e : Env} {R : Room} {s : State} {m : MethodId} {args : Array Value} {below : List Frame} {meth : Method} {c : Code} {H : Heap} {locs : List Loc} {cells slots : Nat} {Q : State → Prop}
variable {G : ai_G} {D : va_G} {dA : Nat → ClassId} {B : Nat} {H0 : Heap} {k pc pc' : Nat} {L L' : ai_L} {ls : Array Slot} {st st' : List Value} {h h' : ai_H}
theorem ai_RA (hK : ai_K G D dA B H0 s) {t : Nat} (ht : t < 7) : va_RA s (dA t) (ai_ek t) := (hK.1.2 t _ (ai_tys_at dA ht)).2
theorem ai_x_newa {t : Nat} {at9 : ArrayType} (ht : t < 4) (hty : newarray.typeOf at9 = ai_ek t) (hw : Cond.arrayClass (ai_ek t) ∈ lw_all) (hby : componentBytes (ai_ek t) ≤ 8) (X : ai_X G D dA B H0 p s m args meth c k) (r : ai_rel G D dA B H0 h H) (hd : decode (ai_mC k) pc = .ok (.newarray at9, 2))
    (he : ai_newa t pc L st h = some (.inl (pc', L', st', h'))) (hc : cells + (h'.2.1 - h.2.1) ≤ R.cells) (hs : slots + (h'.2.2 - h.2.2) ≤ R.slots) (kk : ∀ H', L' = L → ai_rel G D dA B H0 h' H' → W p l e R s m args below meth c H' locs (cells + (h'.2.1 - h.2.1)) (slots + (h'.2.2 - h.2.2)) Q (F0 m pc' ls st')) : W p l e R s m args below meth c H locs cells slots Q (F0 m pc ls st) := by
  obtain ⟨hx, hb, hml, hown, hts, hK, -⟩ := X
  unfold ai_newa at he
  split at he
  · rename_i n rest
    split at he
    · cases he
    · rename_i hn
      have hn0 : ¬ n < 0 := fun z => hn (Or.inl z)
      have hn1 : n.toNatClampNeg ≤ 65536 := Nat.le_of_not_lt fun z => hn (Or.inr z)
      have go : ∀ y : ai_C, (∀ cA : ClassId, ai_conc dA y = .inl (dA t, n.toNatClampNeg, (match y with | .inl z => z.2.2 | .inr _ => .inl fun _ => 0))) → (vp_cell (dA t) (n.toNatClampNeg, (match y with | .inl z => z.2.2 | .inr _ => .inl fun _ => 0)) = arrV (dA t) n.toNatClampNeg (fun _ => defaultValue (ai_ek t))) → ai_nx (pc + 2) L (.ref h.2.1 :: rest) (ai_push h y n.toNatClampNeg) = some (.inl (pc', L', st', h')) → W p l e R s m args below meth c H locs cells slots Q (F0 m pc ls (.int n :: rest)) := by
        intro y hy1 hy2 he
        obtain ⟨rfl, rfl, rfl, rfl⟩ := ai_nx_inv he
        have e1 : (ai_push h y n.toNatClampNeg).2.1 - h.2.1 = 1 := by show h.2.1 + 1 - h.2.1 = 1; omega
        have e2 : (ai_push h y n.toNatClampNeg).2.2 - h.2.2 = n.toNatClampNeg := by show h.2.2 + n.toNatClampNeg - h.2.2 = _; omega
        rw [e1] at hc
        rw [e2] at hs
        rw [e1, e2] at kk
        refine va_newaK hx hb (by rw [hty]; exact hts _ hw) rfl hd rfl hn0 rfl (by rw [hty]; have := Nat.mul_le_mul hn1 hby; omega) hc hs r.1 fun H1 cA g1 z1 o1 _ hNm => ?_
        have hcA : cA = dA t := by
          have hra := ai_RA hK (t := t) (by omega)
          have hra : s.vm.findClass ("[" ++ (ai_ek t).toString) = some (dA t) := by
            rcases (show t = 0 ∨ t = 1 ∨ t = 2 ∨ t = 3 by omega) with rfl | rfl | rfl | rfl <;> exact hra
          rw [hty] at hNm
          exact Option.some.inj (hNm.symm.trans hra)
        subst hcA
        refine kk H1 rfl (r.push (by rw [z1, r.1]) (fun z hz => o1 z (by rw [← r.1]; exact hz)) ?_)
        rw [r.1, hy1 0]
        show H1[h.2.1]? = some (vp_cell _ _)
        rw [hy2, g1, hty]
      split at he
      · rename_i h3
        subst h3
        exact go _ (fun _ => rfl) rfl he
      · refine go _ (fun _ => rfl) ?_ he
        rename_i h3
        rcases (show t = 0 ∨ t = 1 ∨ t = 2 by omega) with rfl | rfl | rfl <;> rfl
  · cases he
theorem ai_aT_ok {o i t : Nat} (he : ai_aT o i = some t) : (t = 4 ∧ Cond.classLink (ai_cn o) i "java/lang/Object" ∈ lw_all) ∨ (t = 5 ∧ Cond.classLink (ai_cn o) i "BoardCrossing$Kept" ∈ lw_all) := by
  unfold ai_aT at he
  cases hf : (ai_atl o).find? fun e => e.1 == i with
  | none => rw [hf] at he; cases he
  | some x =>
    rw [hf] at he
    obtain ⟨hm, hx⟩ := ai_find_mem hf
    simp only [beq_iff_eq] at hx
    subst hx
    have : x.2 = t := Option.some.inj he
    subst this
    exact ai_at_ok o x hm
theorem ai_x_anew (X : ai_X G D dA B H0 p s m args meth c k) (r : ai_rel G D dA B H0 h H) {i : Nat} (hd : decode (ai_mC k) pc = .ok (.anewarray i, 3))
    (he : ai_anew (ai_mO k) i pc L st h = some (.inl (pc', L', st', h'))) (hc : cells + (h'.2.1 - h.2.1) ≤ R.cells) (hs : slots + (h'.2.2 - h.2.2) ≤ R.slots) (kk : ∀ H', L' = L → ai_rel G D dA B H0 h' H' → W p l e R s m args below meth c H' locs (cells + (h'.2.1 - h.2.1)) (slots + (h'.2.2 - h.2.2)) Q (F0 m pc' ls st')) : W p l e R s m args below meth c H locs cells slots Q (F0 m pc ls st) := by
  obtain ⟨hx, hb, hml, hown, hts, hK, -⟩ := X
  unfold ai_anew at he
  split at he
  · rename_i n rest
    split at he
    · rename_i t hat
      split at he
      · cases he
      · rename_i hn
        have hn0 : ¬ n < 0 := fun z => hn (Or.inl z)
        have hn1 : n.toNatClampNeg ≤ 65536 := Nat.le_of_not_lt fun z => hn (Or.inr z)
        obtain ⟨rfl, rfl, rfl, rfl⟩ := ai_nx_inv he
        have e1 : (ai_push h (.inl (t, n.toNatClampNeg, .inr (.inr (.inr (.inr (fun _ => none)))))) n.toNatClampNeg).2.1 - h.2.1 = 1 := by show h.2.1 + 1 - h.2.1 = 1; omega
        have e2 : (ai_push h (.inl (t, n.toNatClampNeg, .inr (.inr (.inr (.inr (fun _ => none)))))) n.toNatClampNeg).2.2 - h.2.2 = n.toNatClampNeg := by show h.2.2 + n.toNatClampNeg - h.2.2 = _; omega
        rw [e1] at hc
        rw [e2] at hs
        rw [e1, e2] at kk
        have go : ∀ C : String, ai_ek t = .object C → t < 7 → Cond.classLink (ai_cn (ai_mO k)) i C ∈ lw_all → va_AO C s → W p l e R s m args below meth c H locs cells slots Q (F0 m pc ls (.int n :: rest)) := by
          intro C hek ht hl hover
          refine W.anew hx hb hown (hts _ hl) (va_AO.use hover) rfl hd rfl hn0 (by omega) hc hs fun cA kA comp f1 f2 f3 f4 => ?_
          have hra := ai_RA hK ht
          rw [hek] at hra
          obtain ⟨_, _, _, _, _, hra⟩ := hra
          have hcA : cA = dA t := Option.some.inj (f1.symm.trans hra)
          subst hcA
          have hk9 := kk (H.push ({ cls := dA t, slots := Array.replicate n.toNatClampNeg .null, vm := .none } : Cell)) rfl (r.push (by rw [Array.size_push]) (fun z hz => by rw [Array.getElem?_push, if_neg (Nat.ne_of_lt hz)]) (by
            show (H.push _)[H.size]? = some (vp_cell _ _)
            rw [Array.getElem?_push_size, vp_cell_q]
            show _ = some (arrV _ _ (fun _ => .null))
            rw [← arrV_new]))
          rw [r.1]
          exact hk9
        rcases ai_aT_ok hat with ⟨rfl, hl⟩ | ⟨rfl, hl⟩
        · exact go _ rfl (by decide) hl hK.2.2.1
        · exact go _ rfl (by decide) hl hK.2.2.2.1
    · cases he
  · cases he
theorem ai_x_cast (X : ai_X G D dA B H0 p s m args meth c k) (r : ai_rel G D dA B H0 h H) {i : Nat} (hd : decode (ai_mC k) pc = .ok (.checkcast i, 3))
    (he : ai_cast G (ai_mO k) i pc L st h = some (.inl (pc', L', st', h'))) (kk : L' = L → h' = h → W p l e R s m args below meth c H locs cells slots Q (F0 m pc' ls st')) : W p l e R s m args below meth c H locs cells slots Q (F0 m pc ls st) := by
  obtain ⟨hx, hb, hml, hown, hts, hK, -⟩ := X
  unfold ai_cast at he
  split at he
  · obtain ⟨rfl, rfl, rfl, rfl⟩ := ai_nx_inv he
    exact lv_castN hx hb hd (kk rfl rfl)
  · split at he
    · rename_i cI f hy
      split at he
      · rename_i hkt
        have hrv := ai_recv hK r (show ai_rd G h _ = some (.inr (cI, f)) by unfold ai_rd; rw [hy])
        obtain ⟨rfl, rfl, rfl, rfl⟩ := ai_nx_inv he
        unfold ai_kT at hkt
        obtain ⟨x, hm, hx9⟩ := List.any_eq_true.mp hkt
        simp only [Bool.and_eq_true, beq_iff_eq] at hx9
        obtain ⟨e1, e2⟩ := hx9
        have hk := ai_kt_ok _ x hm
        rw [e1, e2] at hk
        obtain ⟨nm, hl, hc⟩ := hk
        obtain ⟨q, hq, -⟩ := ai_ob r hy
        have hlt : cI < ai_ncl := (List.getElem?_eq_some_iff.mp hq).1
        obtain ⟨q', hq'⟩ := ai_clk cI hlt
        cases hq.symm.trans hq'.1
        rcases hc with rfl | hc
        · refine va_castS (cC := D.1 cI) hx hb hown (hts _ hl) ?_ hrv hd (kk rfl rfl)
          rw [hq'.2.2.2.2.2.1]
          exact (hK.1.1 cI q hq).2
        · exact va_castY hx hb hown (hts _ hl) (hK.2.1 _ hc) hrv hd (kk rfl rfl)
      · cases he
    · cases he
  · cases he
/-- an object may stand in an array -/
theorem ai_any (hK : ai_K G D dA B H0 s) (r : ai_rel G D dA B H0 h H) {t y : Nat} (hy : ai_elok h t y = true) : ∃ E, ai_ek t = .object E ∧ t < 7 ∧ va_Any E s H y := by
  unfold ai_elok at hy
  split at hy
  · rename_i cI f hh
    simp only [Bool.and_eq_true, Bool.or_eq_true, decide_eq_true_eq] at hy
    obtain ⟨hlt, ht⟩ := hy
    obtain ⟨cell, g1, g2, g3⟩ := ai_recv hK r (show ai_rd G h _ = some (.inr (cI, f)) by unfold ai_rd; rw [hh])
    obtain ⟨kC, hkC, -⟩ := Vm.findClass_spec g3
    obtain ⟨q, hq⟩ := ai_clk cI hlt
    rcases ht with rfl | ⟨rfl, rfl⟩
    · refine ⟨_, rfl, by decide, cell, g1, g2, ⟨kC, hkC⟩, fun comp hcomp => ?_⟩
      obtain ⟨c0, t0, f1, f2, f3⟩ := Cond.castable_spec (va_Nw.use (A := #[]) rfl (hK.2.1 _ hq.2.2.2.2.2.2.2.2))
      rw [← hq.2.2.2.2.2.1] at f1
      cases g3.symm.trans f1
      cases hcomp.symm.trans f2
      exact f3
    · refine ⟨_, rfl, by decide, cell, g1, g2, ⟨kC, hkC⟩, fun comp hcomp => ?_⟩
      have hcomp : s.vm.findClass (ai_cn ai_cKept) = some comp := hcomp
      cases g3.symm.trans hcomp
      have e9 : D.1 ai_cKept = cell.cls := Option.some.inj ((hK.1.1 ai_cKept _ rfl).2.1.symm.trans g3)
      rw [← e9]
      exact va_assign (hK.1.1 ai_cKept _ rfl).2
  · cases hy
theorem ai_x_asta (X : ai_X G D dA B H0 p s m args meth c k) (r : ai_rel G D dA B H0 h H) (hlo : ∀ z ∈ locs, B ≤ z.base) (hd : decode (ai_mC k) pc = .ok (.aastore, 1))
    (he : ai_asta pc L st h = some (.inl (pc', L', st', h'))) (kk : ∀ H' locs', L' = L → h'.2 = h.2 → ai_rel G D dA B H0 h' H' → (∀ z ∈ locs', B ≤ z.base) → W p l e R s m args below meth c H' locs' cells slots Q (F0 m pc' ls st')) : W p l e R s m args below meth c H locs cells slots Q (F0 m pc ls st) := by
  obtain ⟨hx, hb, hml, hown, hts, hK, -⟩ := X
  unfold ai_asta at he
  split at he
  · split at he
    · rename_i t n f hy
      split at he
      · rename_i hc
        simp only [Bool.and_eq_true, Bool.or_eq_true, decide_eq_true_eq] at hc
        obtain ⟨ht, hi⟩ := hc
        obtain ⟨rfl, rfl, rfl, rfl⟩ := ai_nx_inv he
        obtain ⟨q1, q2⟩ := ai_new_arr hK r hy (by omega)
        have hob : ∃ E, ai_ek t = .object E := by rcases ht with rfl | rfl <;> exact ⟨_, rfl⟩
        obtain ⟨E, hE⟩ := hob
        rw [hE] at q2
        refine va_WaastN hx hb q1 (q2 _ _) (fun z => by cases z) (by rw [arrV_size]; exact ai_inb_vp hi) rfl rfl hd (fun H' e1 e2 e3 => ?_)
        refine kk H' _ rfl rfl (r.put hy e2 e3 ?_) (ai_locs_put hlo (r.lt hy).1)
        show H'[_]? = some (vp_cell _ _)
        rw [e1, ai_cell_eq]
        congr 1
        exact ai_arrV_set _ _ _ _ _ _ (fun j _ => by show va_rf (va_up f _ _ j) = _; unfold va_up; split <;> simp_all [ai_elv, va_rf])
      · cases he
    · cases he
  · split at he
    · rename_i t n f hy
      split at he
      · rename_i hc
        simp only [Bool.and_eq_true] at hc
        obtain ⟨ht, hi⟩ := hc
        obtain ⟨rfl, rfl, rfl, rfl⟩ := ai_nx_inv he
        obtain ⟨E, hE, ht7, cellV, v1, v2, ⟨kC, hkC⟩, hasg⟩ := ai_any hK r ht
        obtain ⟨q1, q2⟩ := ai_new_arr hK r hy ht7
        have hra := ai_RA hK ht7
        rw [hE] at hra
        obtain ⟨kA, comp, k1, k2, k3, -⟩ := hra
        obtain ⟨kE, hkE, -⟩ := Vm.findClass_spec k3
        obtain ⟨g1, g2⟩ := ai_inb_lt hi
        refine W.aast hx hb q1 (fun q h => by cases h) (fun h => by cases h) k1 k2 rfl hkE ⟨g1, by rw [arrV_size]; exact g2⟩ v1 (fun q h => by rw [h] at v2; cases v2) hkC (hasg _ k3) rfl rfl hd fun H' e1 e2 e3 => ?_
        refine kk H' _ rfl rfl (r.put hy e2 e3 ?_) (ai_locs_put hlo (r.lt hy).1)
        show H'[_]? = some (vp_cell _ _)
        rw [e1, ai_cell_eq]
        congr 1
        exact ai_arrV_set _ _ _ _ _ _ (fun j _ => by show va_rf (va_up f _ _ j) = _; unfold va_up; split <;> simp_all [ai_elv, va_rf])
      · cases he
    · cases he
  · cases he
end AIV

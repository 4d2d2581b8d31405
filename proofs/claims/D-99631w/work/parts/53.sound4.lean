/-! SOUNDNESS, 4: steps on the heap -/
set_option maxRecDepth 100000
theorem ai_find_mem {α : Type} {l : List α} {f : α → Bool} {x : α} (h : l.find? f = some x) : x ∈ l ∧ f x = true := ⟨List.mem_of_find?_eq_some h, List.find?_some h⟩
section AIY
variable {p : Program} {l : Launch} {e : Env} {R : Room} {s : State} {m : MethodId} {args : Array Value} {below : List Frame} {meth : Method} {c : Code} {H : Heap} {locs : List Loc} {cells slots : Nat} {Q : State → Prop}
variable {G : ai_G} {D : va_G} {dA : Nat → ClassId} {B : Nat} {H0 : Heap} {k pc pc' : Nat} {L L' : ai_L} {ls : Array Slot} {st st' : List Value} {h h' : ai_H} {cc : ByteArray}
theorem ai_inb_vp {i : Int32} {n : Nat} (h : ai_inb i n = true) : vp_in i n := by
  unfold ai_inb at h
  unfold vp_in
  exact of_decide_eq_true h
theorem ai_inb_lt {i : Int32} {n : Nat} (h : ai_inb i n = true) : ¬ i < 0 ∧ i.toNatClampNeg < n := by
  have q := ai_inb_vp h
  exact ⟨fun z => q (Or.inl z), Nat.not_le.mp fun z => q (Or.inr z)⟩
/-- an array that the interpreter reads can be read -/
theorem ai_ard (hK : ai_K G D dA B H0 s) (r : ai_rel G D dA B H0 h H) {a t : Nat} {x : vp_A} (e : ai_rd G h a = some (.inl (t, x))) (ht : t < 7) : ai_arR s H a t x := by
  unfold ai_rd at e
  split at e
  · rename_i y hy
    cases e
    have h1 := r.2.2.2.2 a _ hy
    have h1 : H[a]? = some (vp_cell (dA t) x) := h1
    rw [ai_cell_eq] at h1
    refine ⟨_, h1, (hK.1.2 t _ (ai_tys_at dA ht)).1 x.1 (ai_elv x.2), (fun q => by cases q), by rw [arrV_size]; exact Nat.le_refl _, by rw [arrV_size], fun j hj => arrV_read _ _ hj⟩
  · obtain ⟨hlt, hold⟩ := hK.2.2.2.2.2.2.2.2.2.1 a _ e
    obtain ⟨-, scr, h1, h2⟩ := hold
    exact ⟨scr, by rw [r.2.2.1 a hlt]; exact h1, h2⟩
theorem ai_x_aldi {ok : Nat → Bool} (hok : ∀ t, ok t = true → t < 7) (hK : ai_K G D dA B H0 s) (r : ai_rel G D dA B H0 h H)
    (row : ∀ (a t : Nat) (i : Int32) (scr : Cell) (v : Value) (rest : List Value), ok t = true → H[a]? = some scr → s.isArrayOf scr (ai_ek t) → scr.vm ≠ .unknown → ¬ (i < 0 ∨ scr.slots.size ≤ i.toNatClampNeg) → scr.slots[i.toNatClampNeg]? = some v → W p l e R s m args below meth c H locs cells slots Q (F0 m (pc + 1) ls (v :: rest)) → W p l e R s m args below meth c H locs cells slots Q (F0 m pc ls (.int i :: .ref a :: rest)))
    (he : ai_aldi G ok pc L st h = some (.inl (pc', L', st', h'))) (kk : L' = L → h' = h → W p l e R s m args below meth c H locs cells slots Q (F0 m pc' ls st')) : W p l e R s m args below meth c H locs cells slots Q (F0 m pc ls st) := by
  unfold ai_aldi at he
  split at he
  · split at he
    · rename_i t n f hx
      split at he
      · rename_i hc
        simp only [Bool.and_eq_true] at hc
        obtain ⟨rfl, rfl, rfl, rfl⟩ := ai_nx_inv he
        obtain ⟨scr, q1, q2, q3, q4, q5, q6⟩ := ai_ard hK r hx (hok _ hc.1)
        obtain ⟨g1, g2⟩ := ai_inb_lt hc.2
        refine row _ _ _ scr _ _ hc.1 q1 q2 q3 (fun z => ?_) (q6 _ g2) (kk rfl rfl)
        rcases z with z | z
        · exact g1 z
        · have q4 : n ≤ scr.slots.size := q4
          omega
      · cases he
    · cases he
  · cases he
theorem ai_x_aldl (hK : ai_K G D dA B H0 s) (r : ai_rel G D dA B H0 h H) (hx : p.tables.exec = Jvm.exec) (hb : c.code = cc) (hd : decode cc pc = .ok (.laload, 1))
    (he : ai_aldl G pc L st h = some (.inl (pc', L', st', h'))) (kk : L' = L → h' = h → W p l e R s m args below meth c H locs cells slots Q (F0 m pc' ls st')) : W p l e R s m args below meth c H locs cells slots Q (F0 m pc ls st) := by
  unfold ai_aldl at he
  split at he
  · split at he
    · rename_i t n f hy
      split at he
      · rename_i hc
        simp only [Bool.and_eq_true, decide_eq_true_eq] at hc
        obtain ⟨ht, hi⟩ := hc
        subst ht
        obtain ⟨rfl, rfl, rfl, rfl⟩ := ai_nx_inv he
        obtain ⟨scr, q1, q2, q3, q4, q5, q6⟩ := ai_ard hK r hy (by decide)
        obtain ⟨g1, g2⟩ := ai_inb_lt hi
        refine W.lald hx hb q1 q2 q3 (fun z => ?_) (q6 _ g2) rfl rfl hd (kk rfl rfl)
        rcases z with z | z
        · exact g1 z
        · have q4 : n ≤ scr.slots.size := q4
          omega
      · cases he
    · cases he
  · cases he
theorem ai_ek_ref {t : Nat} (h : 4 ≤ t) : (ai_ek t).isReference = true := by
  unfold ai_ek
  split <;> first | omega | rfl
theorem ai_x_alda (hK : ai_K G D dA B H0 s) (r : ai_rel G D dA B H0 h H) (hx : p.tables.exec = Jvm.exec) (hb : c.code = cc) (hd : decode cc pc = .ok (.aaload, 1))
    (he : ai_alda G pc L st h = some (.inl (pc', L', st', h'))) (kk : L' = L → h' = h → W p l e R s m args below meth c H locs cells slots Q (F0 m pc' ls st')) : W p l e R s m args below meth c H locs cells slots Q (F0 m pc ls st) := by
  unfold ai_alda at he
  split at he
  · split at he
    · rename_i t n f hy
      split at he
      · rename_i hc
        simp only [Bool.and_eq_true, decide_eq_true_eq] at hc
        obtain ⟨⟨ht, ht2⟩, hi⟩ := hc
        obtain ⟨rfl, rfl, rfl, rfl⟩ := ai_nx_inv he
        obtain ⟨scr, q1, q2, q3, q4, q5, q6⟩ := ai_ard hK r hy ht2
        obtain ⟨g1, g2⟩ := ai_inb_lt hi
        refine W.aald hx hb q1 q2 (ai_ek_ref ht) q3 (fun z => ?_) (q6 _ g2) rfl rfl hd (kk rfl rfl)
        rcases z with z | z
        · exact g1 z
        · have q4 : n ≤ scr.slots.size := q4
          omega
      · cases he
    · cases he
  · cases he
theorem ai_x_alen (hK : ai_K G D dA B H0 s) (r : ai_rel G D dA B H0 h H) (hx : p.tables.exec = Jvm.exec) (hb : c.code = cc) (hd : decode cc pc = .ok (.arraylength, 1))
    (he : ai_alen G pc L st h = some (.inl (pc', L', st', h'))) (kk : L' = L → h' = h → W p l e R s m args below meth c H locs cells slots Q (F0 m pc' ls st')) : W p l e R s m args below meth c H locs cells slots Q (F0 m pc ls st) := by
  unfold ai_alen at he
  split at he
  · split at he
    · rename_i t n f hy
      split at he
      · rename_i ht
        obtain ⟨rfl, rfl, rfl, rfl⟩ := ai_nx_inv he
        obtain ⟨scr, q1, q2, q3, q4, q5, q6⟩ := ai_ard hK r hy ht
        exact W.alen hx hb q1 q2 q5 rfl rfl hd (kk rfl rfl)
      · cases he
    · cases he
  · cases he
/-- a new array, as a cell of the machine -/
theorem ai_new_arr (hK : ai_K G D dA B H0 s) (r : ai_rel G D dA B H0 h H) {a t : Nat} {x : vp_A} (e : h.1 a = some (.inl (t, x))) (ht : t < 7) : H[a]? = some (arrV (dA t) x.1 (ai_elv x.2)) ∧ ArrOfT s (dA t) (ai_ek t) := by
  have h1 : H[a]? = some (vp_cell (dA t) x) := r.2.2.2.2 a _ e
  rw [ai_cell_eq] at h1
  exact ⟨h1, (hK.1.2 t _ (ai_tys_at dA ht)).1⟩
theorem ai_arrV_set (cA : ClassId) (n : Nat) (f g : Nat → Value) (i : Nat) (v : Value) (hg : ∀ j, j < n → g j = if j = i then v else f j) : (arrV cA n f).setSlot i v = arrV cA n g := by
  unfold arrV Cell.setSlot
  congr 1
  apply Array.ext_getElem?
  intro j
  rw [Array.getElem?_setIfInBounds]
  by_cases hj : j < n
  · by_cases q : i = j
    · subst q
      simp [hj, hg i hj]
    · have q2 : ¬ j = i := fun z => q z.symm
      rw [if_neg q]
      simp [hj, hg j hj, q2]
  · by_cases q : i = j
    · subst q
      simp [hj]
    · rw [if_neg q]
      simp [hj]
theorem ai_locs_put {locs : List Loc} (hlo : ∀ z ∈ locs, B ≤ z.base) {a i : Nat} (ha : B ≤ a) : ∀ z ∈ locs ++ [(⟨a, i⟩ : Loc)], B ≤ z.base := by
  intro z hz
  rcases List.mem_append.mp hz with q | q
  · exact hlo z q
  · rw [List.mem_singleton.mp q]
    exact ha
theorem ai_x_asti {ok : Nat → Bool} (hok : ∀ t, ok t = true → t < 7) (hK : ai_K G D dA B H0 s) (r : ai_rel G D dA B H0 h H) (hlo : ∀ z ∈ locs, B ≤ z.base)
    (row : ∀ (a t : Nat) (i x : Int32) (scr : Cell) (rest : List Value), ok t = true → H[a]? = some scr → s.isArrayOf scr (ai_ek t) → scr.vm ≠ .unknown → ¬ (i < 0 ∨ scr.slots.size ≤ i.toNatClampNeg) → (∀ H' : Heap, H'[a]? = some (scr.setSlot i.toNatClampNeg (.int (vp_nar (ai_ek t) x))) → H'.size = H.size → (∀ q, q ≠ a → H'[q]? = H[q]?) → W p l e R s m args below meth c H' (locs ++ [⟨a, i.toNatClampNeg⟩]) cells slots Q (F0 m (pc + 1) ls rest)) → W p l e R s m args below meth c H locs cells slots Q (F0 m pc ls (.int x :: .int i :: .ref a :: rest)))
    (he : ai_asti ok pc L st h = some (.inl (pc', L', st', h'))) (kk : ∀ H' locs', L' = L → h'.2 = h.2 → ai_rel G D dA B H0 h' H' → (∀ z ∈ locs', B ≤ z.base) → W p l e R s m args below meth c H' locs' cells slots Q (F0 m pc' ls st')) : W p l e R s m args below meth c H locs cells slots Q (F0 m pc ls st) := by
  unfold ai_asti at he
  split at he
  · split at he
    · rename_i t n f hy
      split at he
      · rename_i hc
        simp only [Bool.and_eq_true] at hc
        obtain ⟨rfl, rfl, rfl, rfl⟩ := ai_nx_inv he
        obtain ⟨q1, q2⟩ := ai_new_arr hK r hy (hok _ hc.1)
        obtain ⟨g1, g2⟩ := ai_inb_lt hc.2
        refine row _ _ _ _ _ _ hc.1 q1 (q2 _ _) (fun z => by cases z) (by rw [arrV_size]; exact ai_inb_vp hc.2) (fun H' e1 e2 e3 => ?_)
        refine kk H' _ rfl rfl (r.put hy e2 e3 ?_) (ai_locs_put hlo (r.lt hy).1)
        show H'[_]? = some (vp_cell _ _)
        rw [e1, ai_cell_eq]
        congr 1
        exact ai_arrV_set _ _ _ _ _ _ (fun j _ => by show Value.int (upd f _ _ j) = _; unfold upd; split <;> simp_all [ai_elv])
      · cases he
    · cases he
  · cases he
theorem ai_x_astl (hK : ai_K G D dA B H0 s) (r : ai_rel G D dA B H0 h H) (hlo : ∀ z ∈ locs, B ≤ z.base) (hx : p.tables.exec = Jvm.exec) (hb : c.code = cc) (hd : decode cc pc = .ok (.lastore, 1))
    (he : ai_astl pc L st h = some (.inl (pc', L', st', h'))) (kk : ∀ H' locs', L' = L → h'.2 = h.2 → ai_rel G D dA B H0 h' H' → (∀ z ∈ locs', B ≤ z.base) → W p l e R s m args below meth c H' locs' cells slots Q (F0 m pc' ls st')) : W p l e R s m args below meth c H locs cells slots Q (F0 m pc ls st) := by
  unfold ai_astl at he
  split at he
  · split at he
    · rename_i t n f hy
      split at he
      · rename_i hc
        simp only [Bool.and_eq_true, decide_eq_true_eq] at hc
        obtain ⟨ht, hi⟩ := hc
        subst ht
        obtain ⟨rfl, rfl, rfl, rfl⟩ := ai_nx_inv he
        obtain ⟨q1, q2⟩ := ai_new_arr hK r hy (by decide)
        obtain ⟨g1, g2⟩ := ai_inb_lt hi
        refine W.last hx hb q1 (q2 _ _) (fun z => by cases z) (by rw [arrV_size]; exact ai_inb_vp hi) rfl rfl hd (fun H' e1 e2 e3 => ?_)
        refine kk H' _ rfl rfl (r.put hy e2 e3 ?_) (ai_locs_put hlo (r.lt hy).1)
        show H'[_]? = some (vp_cell _ _)
        rw [e1, ai_cell_eq]
        congr 1
        exact ai_arrV_set _ _ _ _ _ _ (fun j _ => by show Value.long (vp_updL f _ _ j) = _; unfold vp_updL; split <;> simp_all [ai_elv])
      · cases he
    · cases he
  · cases he
end AIY

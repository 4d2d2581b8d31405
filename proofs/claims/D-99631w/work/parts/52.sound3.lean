/-! SOUNDNESS, 3: steps on the stack and the locals -/
set_option maxRecDepth 100000
section AIX
variable {p : Program} {l : Launch} {e : Env} {R : Room} {s : State} {m : MethodId} {args : Array Value} {below : List Frame} {meth : Method} {c : Code} {H : Heap} {locs : List Loc} {cells slots : Nat} {Q : State → Prop}
variable {G : ai_G} {k pc pc' : Nat} {L L' : ai_L} {ls : Array Slot} {st st' : List Value} {h h' : ai_H} {cc : ByteArray}
theorem ai_nx_inv {a b : Nat} {c1 c2 : ai_L} {d1 d2 : List Value} {e1 e2 : ai_H} (x : ai_nx a c1 d1 e1 = some (.inl (b, c2, d2, e2))) : b = a ∧ c2 = c1 ∧ d2 = d1 ∧ e2 = e1 := by
  simp only [ai_nx, Option.some.injEq, Sum.inl.injEq, Prod.mk.injEq] at x
  exact ⟨x.1.symm, x.2.1.symm, x.2.2.1.symm, x.2.2.2.symm⟩
theorem ai_jp_inv {t : Nat} {off : Int} (x : ai_jp pc off = some t) : (pc : Int) + off = (t : Int) := by
  unfold ai_jp at x
  split at x
  · rename_i q hq
    cases x
    exact hq
  · cases x
theorem ai_x_ib {f : Int32 → Int32 → Int32} (row : ∀ (x y : Int32) (rest : List Value), W p l e R s m args below meth c H locs cells slots Q (F0 m (pc + 1) ls (.int (f x y) :: rest)) → W p l e R s m args below meth c H locs cells slots Q (F0 m pc ls (.int y :: .int x :: rest)))
    (he : ai_ib f pc L st h = some (.inl (pc', L', st', h'))) (kk : L' = L → h' = h → W p l e R s m args below meth c H locs cells slots Q (F0 m pc' ls st')) : W p l e R s m args below meth c H locs cells slots Q (F0 m pc ls st) := by
  unfold ai_ib at he
  split at he
  · obtain ⟨rfl, rfl, rfl, rfl⟩ := ai_nx_inv he
    exact row _ _ _ (kk rfl rfl)
  · cases he
theorem ai_x_id {f : Int32 → Int32 → Int32} (row : ∀ (x y : Int32) (rest : List Value), ¬ y = 0 → W p l e R s m args below meth c H locs cells slots Q (F0 m (pc + 1) ls (.int (f x y) :: rest)) → W p l e R s m args below meth c H locs cells slots Q (F0 m pc ls (.int y :: .int x :: rest)))
    (he : ai_id f pc L st h = some (.inl (pc', L', st', h'))) (kk : L' = L → h' = h → W p l e R s m args below meth c H locs cells slots Q (F0 m pc' ls st')) : W p l e R s m args below meth c H locs cells slots Q (F0 m pc ls st) := by
  unfold ai_id at he
  split at he
  · split at he
    · cases he
    · rename_i hy
      obtain ⟨rfl, rfl, rfl, rfl⟩ := ai_nx_inv he
      exact row _ _ _ hy (kk rfl rfl)
  · cases he
theorem ai_x_iu {f : Int32 → Int32} (row : ∀ (x : Int32) (rest : List Value), W p l e R s m args below meth c H locs cells slots Q (F0 m (pc + 1) ls (.int (f x) :: rest)) → W p l e R s m args below meth c H locs cells slots Q (F0 m pc ls (.int x :: rest)))
    (he : ai_iu f pc L st h = some (.inl (pc', L', st', h'))) (kk : L' = L → h' = h → W p l e R s m args below meth c H locs cells slots Q (F0 m pc' ls st')) : W p l e R s m args below meth c H locs cells slots Q (F0 m pc ls st) := by
  unfold ai_iu at he
  split at he
  · obtain ⟨rfl, rfl, rfl, rfl⟩ := ai_nx_inv he
    exact row _ _ (kk rfl rfl)
  · cases he
theorem ai_x_ldi {i n : Nat} (hl : ai_lv L ls) (row : ∀ (x : Int32), ls[i]? = some (.val (.int x)) → W p l e R s m args below meth c H locs cells slots Q (F0 m (pc + n) ls (.int x :: st)) → W p l e R s m args below meth c H locs cells slots Q (F0 m pc ls st))
    (he : ai_ldi i n pc L st h = some (.inl (pc', L', st', h'))) (kk : L' = L → h' = h → W p l e R s m args below meth c H locs cells slots Q (F0 m pc' ls st')) : W p l e R s m args below meth c H locs cells slots Q (F0 m pc ls st) := by
  unfold ai_ldi at he
  split at he
  · rename_i x hx
    obtain ⟨rfl, rfl, rfl, rfl⟩ := ai_nx_inv he
    exact row _ (hl.2.2 _ _ hx) (kk rfl rfl)
  · cases he
theorem ai_x_ldl {i n : Nat} (hl : ai_lv L ls) (row : ∀ (x : Int64), ls[i]? = some (.val (.long x)) → W p l e R s m args below meth c H locs cells slots Q (F0 m (pc + n) ls (.long x :: st)) → W p l e R s m args below meth c H locs cells slots Q (F0 m pc ls st))
    (he : ai_ldl i n pc L st h = some (.inl (pc', L', st', h'))) (kk : L' = L → h' = h → W p l e R s m args below meth c H locs cells slots Q (F0 m pc' ls st')) : W p l e R s m args below meth c H locs cells slots Q (F0 m pc ls st) := by
  unfold ai_ldl at he
  split at he
  · rename_i x hx
    obtain ⟨rfl, rfl, rfl, rfl⟩ := ai_nx_inv he
    exact row _ (hl.2.2 _ _ hx) (kk rfl rfl)
  · cases he
theorem ai_x_lda {i n : Nat} (hl : ai_lv L ls) (row : ∀ (x : Nat), ls[i]? = some (.val (.ref x)) → W p l e R s m args below meth c H locs cells slots Q (F0 m (pc + n) ls (.ref x :: st)) → W p l e R s m args below meth c H locs cells slots Q (F0 m pc ls st))
    (rowN : ls[i]? = some (.val .null) → W p l e R s m args below meth c H locs cells slots Q (F0 m (pc + n) ls (.null :: st)) → W p l e R s m args below meth c H locs cells slots Q (F0 m pc ls st))
    (he : ai_lda i n pc L st h = some (.inl (pc', L', st', h'))) (kk : L' = L → h' = h → W p l e R s m args below meth c H locs cells slots Q (F0 m pc' ls st')) : W p l e R s m args below meth c H locs cells slots Q (F0 m pc ls st) := by
  unfold ai_lda at he
  split at he
  · rename_i x hx
    obtain ⟨rfl, rfl, rfl, rfl⟩ := ai_nx_inv he
    exact row _ (hl.2.2 _ _ hx) (kk rfl rfl)
  · rename_i hx
    obtain ⟨rfl, rfl, rfl, rfl⟩ := ai_nx_inv he
    exact rowN (hl.2.2 _ _ hx) (kk rfl rfl)
  · cases he
theorem ai_x_sti {i n : Nat} (hl : ai_lv L ls) (row : ∀ (x : Int32) (rest : List Value), i < L.length → (∀ ls' : Array Slot, lv_has ls' L.length ((i, Value.int x) :: (ai_toL L).filter (fun q => !(q.1 == i) && !(q.1 + 1 == i && q.2.category == 2))) → W p l e R s m args below meth c H locs cells slots Q (F0 m (pc + n) ls' rest)) → W p l e R s m args below meth c H locs cells slots Q (F0 m pc ls (.int x :: rest)))
    (he : ai_sti i n pc L st h = some (.inl (pc', L', st', h'))) (kk : ∀ ls', ai_lv L' ls' → h' = h → W p l e R s m args below meth c H locs cells slots Q (F0 m pc' ls' st')) : W p l e R s m args below meth c H locs cells slots Q (F0 m pc ls st) := by
  unfold ai_sti at he
  split at he
  · split at he
    · rename_i hi
      obtain ⟨rfl, rfl, rfl, rfl⟩ := ai_nx_inv he
      exact row _ _ hi (fun ls' hh => kk ls' (ai_lv_put1 hh) rfl)
    · cases he
  · cases he
theorem ai_x_sta {i n : Nat} (hl : ai_lv L ls) (row : ∀ (x : Nat) (rest : List Value), i < L.length → (∀ ls' : Array Slot, lv_has ls' L.length ((i, Value.ref x) :: (ai_toL L).filter (fun q => !(q.1 == i) && !(q.1 + 1 == i && q.2.category == 2))) → W p l e R s m args below meth c H locs cells slots Q (F0 m (pc + n) ls' rest)) → W p l e R s m args below meth c H locs cells slots Q (F0 m pc ls (.ref x :: rest)))
    (rowN : ∀ (rest : List Value), i < L.length → (∀ ls' : Array Slot, lv_has ls' L.length ((i, Value.null) :: (ai_toL L).filter (fun q => !(q.1 == i) && !(q.1 + 1 == i && q.2.category == 2))) → W p l e R s m args below meth c H locs cells slots Q (F0 m (pc + n) ls' rest)) → W p l e R s m args below meth c H locs cells slots Q (F0 m pc ls (.null :: rest)))
    (he : ai_sta i n pc L st h = some (.inl (pc', L', st', h'))) (kk : ∀ ls', ai_lv L' ls' → h' = h → W p l e R s m args below meth c H locs cells slots Q (F0 m pc' ls' st')) : W p l e R s m args below meth c H locs cells slots Q (F0 m pc ls st) := by
  unfold ai_sta at he
  split at he
  · split at he
    · rename_i hi
      obtain ⟨rfl, rfl, rfl, rfl⟩ := ai_nx_inv he
      exact row _ _ hi (fun ls' hh => kk ls' (ai_lv_put1 hh) rfl)
    · cases he
  · split at he
    · rename_i hi
      obtain ⟨rfl, rfl, rfl, rfl⟩ := ai_nx_inv he
      exact rowN _ hi (fun ls' hh => kk ls' (ai_lv_put1 hh) rfl)
    · cases he
  · cases he
theorem ai_lv_put2 {i : Nat} {v : Value} (h : lv_has ls L.length ((i, v) :: (ai_toL L).filter (fun q => !(q.1 == i) && (!(q.1 == i + 1) && !(q.1 + 1 == i && q.2.category == 2))))) : ai_lv (ai_st2 L i v) ls := by
  refine ⟨by rw [ai_st2_len]; exact h.1, h.2.1, fun j w hj => ?_⟩
  unfold ai_st2 at hj
  rw [List.getElem?_set] at hj
  by_cases e1 : i + 1 = j
  · rw [if_pos e1] at hj
    split at hj <;> cases hj
  · rw [if_neg e1, List.getElem?_set] at hj
    by_cases e : i = j
    · subst e
      rw [if_pos rfl] at hj
      split at hj
      · cases hj
        exact h.2.2 _ List.mem_cons_self
      · cases hj
    · rw [if_neg e] at hj
      obtain ⟨h1, h2⟩ := ai_kill_get hj
      refine h.2.2 (j, w) (List.mem_cons_of_mem _ (List.mem_filter.mpr ⟨ai_mem_toL.mpr h1, ?_⟩))
      simp only [Bool.and_eq_true, Bool.not_eq_true', beq_eq_false_iff_ne, ne_eq, Bool.and_eq_false_iff]
      refine ⟨fun q => e q.symm, fun q => e1 q.symm, ?_⟩
      by_cases q : j + 1 = i
      · exact Or.inr fun z => h2 ⟨q, z⟩
      · exact Or.inl q
theorem ai_x_stl {i n : Nat} (hl : ai_lv L ls) (row : ∀ (x : Int64) (rest : List Value), i + 1 < L.length → (∀ ls' : Array Slot, lv_has ls' L.length ((i, Value.long x) :: (ai_toL L).filter (fun q => !(q.1 == i) && (!(q.1 == i + 1) && !(q.1 + 1 == i && q.2.category == 2)))) → W p l e R s m args below meth c H locs cells slots Q (F0 m (pc + n) ls' rest)) → W p l e R s m args below meth c H locs cells slots Q (F0 m pc ls (.long x :: rest)))
    (he : ai_stl i n pc L st h = some (.inl (pc', L', st', h'))) (kk : ∀ ls', ai_lv L' ls' → h' = h → W p l e R s m args below meth c H locs cells slots Q (F0 m pc' ls' st')) : W p l e R s m args below meth c H locs cells slots Q (F0 m pc ls st) := by
  unfold ai_stl at he
  split at he
  · split at he
    · rename_i hi
      obtain ⟨rfl, rfl, rfl, rfl⟩ := ai_nx_inv he
      exact row _ _ hi (fun ls' hh => kk ls' (ai_lv_put2 hh) rfl)
    · cases he
  · cases he
theorem ai_toL_at {i : Nat} {v : Value} (h : L[i]? = some (some v)) : ∃ k : Nat, (ai_toL L)[k]? = some (i, v) := List.getElem?_of_mem (ai_mem_toL.mpr h)
theorem ai_x_go1 {b : Bool} {off : Int} {st0 : List Value} (row : ∀ t : Nat, (pc : Int) + off = (t : Int) → (b = true → W p l e R s m args below meth c H locs cells slots Q (F0 m t ls st)) → (b = false → W p l e R s m args below meth c H locs cells slots Q (F0 m (pc + 3) ls st)) → W p l e R s m args below meth c H locs cells slots Q (F0 m pc ls st0))
    (he : ai_go1 b pc off L st h = some (.inl (pc', L', st', h'))) (kk : L' = L → h' = h → W p l e R s m args below meth c H locs cells slots Q (F0 m pc' ls st')) : W p l e R s m args below meth c H locs cells slots Q (F0 m pc ls st0) := by
  unfold ai_go1 at he
  cases ht : ai_jp pc off with
  | none => rw [ht] at he; cases he
  | some t =>
    rw [ht, Option.bind_some] at he
    cases b with
    | true =>
      rw [if_pos rfl] at he
      obtain ⟨rfl, rfl, rfl, rfl⟩ := ai_nx_inv he
      exact row _ (ai_jp_inv ht) (fun _ => kk rfl rfl) (fun z => by cases z)
    | false =>
      rw [if_neg (by decide)] at he
      obtain ⟨rfl, rfl, rfl, rfl⟩ := ai_nx_inv he
      exact row _ (ai_jp_inv ht) (fun z => by cases z) (fun _ => kk rfl rfl)
end AIX

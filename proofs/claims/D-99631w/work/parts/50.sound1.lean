/-! SOUNDNESS, 1: locals, the relation of heaps, what is known of the tables -/
set_option maxRecDepth 100000
theorem ai_kill_len (l : ai_L) (i : Nat) : (ai_kill l i).length = l.length := by
  unfold ai_kill
  split
  · rfl
  · split <;> simp
theorem ai_st1_len (l : ai_L) (i : Nat) (v : Value) : (ai_st1 l i v).length = l.length := by simp [ai_st1, ai_kill_len]
theorem ai_st2_len (l : ai_L) (i : Nat) (v : Value) : (ai_st2 l i v).length = l.length := by simp [ai_st2, ai_kill_len]
def ai_lv (L : ai_L) (ls : Array Slot) : Prop := ls.size = L.length ∧ lv_wf ls ∧ ∀ (i : Nat) (v : Value), L[i]? = some (some v) → ls[i]? = some (.val v)
def ai_toL (L : ai_L) : List (Nat × Value) := (List.range L.length).filterMap fun i => match L[i]? with
  | some (some v) => some (i, v)
  | _ => none
theorem ai_mem_toL {L : ai_L} {i : Nat} {v : Value} : (i, v) ∈ ai_toL L ↔ L[i]? = some (some v) := by
  unfold ai_toL
  rw [List.mem_filterMap]
  constructor
  · rintro ⟨j, -, hj⟩
    split at hj
    · rename_i w e
      cases hj
      exact e
    · cases hj
  · intro h
    refine ⟨i, List.mem_range.mpr (List.getElem?_eq_some_iff.mp h).1, ?_⟩
    rw [h]
theorem ai_lv_has {L : ai_L} {ls : Array Slot} (h : ai_lv L ls) : lv_has ls L.length (ai_toL L) := ⟨h.1, h.2.1, fun q hq => h.2.2 q.1 q.2 (ai_mem_toL.mp hq)⟩
theorem ai_kill_get {L : ai_L} {i j : Nat} {w : Value} (hj : (ai_kill L i)[j]? = some (some w)) : L[j]? = some (some w) ∧ ¬ (j + 1 = i ∧ w.category = 2) := by
  unfold ai_kill at hj
  split at hj
  · exact ⟨hj, fun q => by omega⟩
  · rename_i k
    have key : ∀ (u : Value), L[k]? = some (some u) → u.category = 2 → (L.set k none)[j]? = some (some w) → L[j]? = some (some w) ∧ ¬ (j + 1 = k + 1 ∧ w.category = 2) := by
      intro u hu hc h
      by_cases e : j = k
      · subst e
        rw [List.getElem?_set] at h
        have : j < L.length := (List.getElem?_eq_some_iff.mp hu).1
        simp [this] at h
      · rw [List.getElem?_set] at h
        rw [if_neg (by omega)] at h
        exact ⟨h, fun q => e (by omega)⟩
    split at hj
    · rename_i u e
      exact key _ e rfl hj
    · rename_i u e
      exact key _ e rfl hj
    · rename_i h1 h2
      refine ⟨hj, fun q => ?_⟩
      obtain ⟨e, hc⟩ := q
      have e : j = k := by omega
      subst e
      cases w with
      | long x => exact h1 x hj
      | double x => exact h2 x hj
      | int x => cases hc
      | float x => cases hc
      | null => cases hc
      | ref x => cases hc
      | retAddr x => cases hc
theorem ai_lv_put1 {L : ai_L} {i : Nat} {v : Value} {ls : Array Slot} (h : lv_has ls L.length ((i, v) :: (ai_toL L).filter (fun q => !(q.1 == i) && !(q.1 + 1 == i && q.2.category == 2)))) : ai_lv (ai_st1 L i v) ls := by
  refine ⟨by rw [ai_st1_len]; exact h.1, h.2.1, fun j w hj => ?_⟩
  unfold ai_st1 at hj
  rw [List.getElem?_set] at hj
  by_cases e : i = j
  · subst e
    rw [if_pos rfl] at hj
    split at hj
    · cases hj
      exact h.2.2 _ List.mem_cons_self
    · cases hj
  · rw [if_neg e] at hj
    obtain ⟨h1, h2⟩ := ai_kill_get hj
    refine h.2.2 (j, w) (List.mem_cons_of_mem _ (List.mem_filter.mpr ⟨ai_mem_toL.mpr h1, ?_⟩))
    simp only [Bool.and_eq_true, Bool.not_eq_true', beq_eq_false_iff_ne, ne_eq, Bool.and_eq_false_iff]
    refine ⟨fun q => e q.symm, ?_⟩
    by_cases q : j + 1 = i
    · exact Or.inr fun z => h2 ⟨q, z⟩
    · exact Or.inl q
/-- the classes' numbers of fields -/
def ai_N (c : Nat) : Nat := ((ai_cl[c]?).map fun q => q.2.2).getD 0
def ai_conc (dA : Nat → ClassId) (x : ai_C) : va_E := match x with
  | .inl (t, a) => .inl (dA t, a)
  | .inr (c, f) => .inr (c, (List.range (ai_N c)).map f)
def ai_tys (dA : Nat → ClassId) : List (ClassId × FieldType) := (List.range 7).map fun t => (dA t, ai_ek t)
theorem ai_tys_at (dA : Nat → ClassId) {t : Nat} (h : t < 7) : (ai_tys dA)[t]? = some (dA t, ai_ek t) := by
  unfold ai_tys
  rw [List.getElem?_map, List.getElem?_range h]
  rfl
/-- the abstract heap is the machine's: all new cells are held, the old ones unchanged; one Wrong at most -/
def ai_rel (G : ai_G) (D : va_G) (dA : Nat → ClassId) (B : Nat) (H0 : Heap) (h : ai_H) (H : Heap) : Prop :=
  H.size = h.2.1 ∧ B ≤ h.2.1 ∧ (∀ q, q < B → H[q]? = H0[q]?) ∧ (∀ a, (h.1 a).isSome = true ↔ (B ≤ a ∧ a < h.2.1)) ∧ ∀ a x, h.1 a = some x → va_at D ai_cl (a, ai_conc dA x) H
section REL
variable {G : ai_G} {D : va_G} {dA : Nat → ClassId} {B : Nat} {H0 : Heap} {h : ai_H} {H : Heap}
theorem ai_rel.lt (r : ai_rel G D dA B H0 h H) {a : Nat} {x : ai_C} (e : h.1 a = some x) : B ≤ a ∧ a < h.2.1 := (r.2.2.2.1 a).mp (by rw [e]; rfl)
/-- behind a write of one cell -/
theorem ai_rel.put (r : ai_rel G D dA B H0 h H) {a : Nat} {x y : ai_C} (e : h.1 a = some x) {H1 : Heap} (hz : H1.size = H.size) (ho : ∀ q, q ≠ a → H1[q]? = H[q]?) (hn : va_at D ai_cl (a, ai_conc dA y) H1) : ai_rel G D dA B H0 (ai_set h a y) H1 := by
  have hl := r.lt e
  have hs : ∀ b, ((ai_set h a y).1 b).isSome = true ↔ (B ≤ b ∧ b < (ai_set h a y).2.1) := by
    intro b
    show (va_up h.1 a (some y) b).isSome = true ↔ (B ≤ b ∧ b < h.2.1)
    unfold va_up
    by_cases q : b = a
    · rw [if_pos q, q]
      simp [hl]
    · rw [if_neg q]
      exact r.2.2.2.1 b
  refine ⟨hz.trans r.1, r.2.1, fun q hq => (ho q (by omega)).trans (r.2.2.1 q hq), hs, fun b z hb => ?_⟩
  have hb' : va_up h.1 a (some y) b = some z := hb
  unfold va_up at hb'
  by_cases q : b = a
  · rw [if_pos q] at hb'
    cases hb'
    rw [q]
    exact hn
  · rw [if_neg q] at hb'
    exact (r.2.2.2.2 b z hb').kept (ho b q)
/-- behind a new cell -/
theorem ai_rel.push (r : ai_rel G D dA B H0 h H) {y : ai_C} {n : Nat} {H1 : Heap} (hz : H1.size = H.size + 1) (ho : ∀ q, q < H.size → H1[q]? = H[q]?) (hn : va_at D ai_cl (H.size, ai_conc dA y) H1) : ai_rel G D dA B H0 (ai_push h y n) H1 := by
  have e0 := r.1
  have hs : ∀ b, ((ai_push h y n).1 b).isSome = true ↔ (B ≤ b ∧ b < (ai_push h y n).2.1) := by
    intro b
    show (va_up h.1 h.2.1 (some y) b).isSome = true ↔ (B ≤ b ∧ b < h.2.1 + 1)
    unfold va_up
    by_cases q : b = h.2.1
    · rw [if_pos q, q]
      have := r.2.1
      simp [this]
    · rw [if_neg q, r.2.2.2.1 b]
      omega
  refine ⟨by rw [hz, e0]; rfl, Nat.le_trans r.2.1 (Nat.le_succ _), fun q hq => (ho q (by rw [e0]; have := r.2.1; omega)).trans (r.2.2.1 q hq), hs, fun b z hb => ?_⟩
  have hb' : va_up h.1 h.2.1 (some y) b = some z := hb
  unfold va_up at hb'
  by_cases q : b = h.2.1
  · rw [if_pos q] at hb'
    cases hb'
    rw [q, ← e0]
    exact hn
  · rw [if_neg q] at hb'
    have := r.lt hb'
    exact (r.2.2.2.2 b z hb').kept (ho b (by rw [e0]; exact this.2))
end REL

/-! SOUNDNESS, 2: what is known of the tables and of the old cells -/
set_option maxRecDepth 100000
def ai_elv (x : (Nat → Int32) ⊕ (Nat → Int64) ⊕ (Nat → UInt32) ⊕ (Nat → UInt64) ⊕ (Nat → Option Nat)) (j : Nat) : Value := match x with
  | .inl f => .int (f j)
  | .inr (.inl f) => .long (f j)
  | .inr (.inr (.inl f)) => .float (f j)
  | .inr (.inr (.inr (.inl f))) => .double (f j)
  | .inr (.inr (.inr (.inr f))) => va_rf (f j)
theorem ai_cell_eq (cA : ClassId) (x : vp_A) : vp_cell cA x = arrV cA x.1 (ai_elv x.2) := by
  obtain ⟨n, x⟩ := x
  rcases x with f | f | f | f | f <;> rfl
/-- an array that can be read -/
def ai_arR (U : State) (H : Heap) (a t : Nat) (x : vp_A) : Prop := ∃ scr : Cell, H[a]? = some scr ∧ U.isArrayOf scr (ai_ek t) ∧ scr.vm ≠ .unknown ∧ x.1 ≤ scr.slots.size ∧ scr.slots.size.toInt32 = Int32.ofNat x.1 ∧ ∀ j, j < x.1 → scr.slots[j]? = some (ai_elv x.2 j)
def ai_A (B : Nat) : Nat → Prop := fun q => B ≤ q
def ai_sN : String := "java/lang/String"
def ai_oldOK (U : State) (H0 : Heap) (B a : Nat) (x : ai_C) : Prop := match x with
  | .inl (t, x) => t < 7 ∧ ai_arR U H0 a t x
  | .inr (c, f) => c = ai_cStr ∧ va_OF ai_sN "value" "[B" (f 0) a (ai_A B) U H0 ∧ va_OF ai_sN "code\x72" "B" (f 1) a (ai_A B) U H0 ∧ va_O ai_sN a (ai_A B) U H0
/-- the statics that are read: their number among the constants -/
def ai_sts : List (Nat × String × String × String) := [(50, "java/util/ArrayList", "DEFAULTCAPACITY_EMPTY_ELEMENTDATA", "[Ljava/lang/Object;"), (51, "java/lang/String", "COMPACT_STRINGS", "Z"), (52, "jdk/internal/util/Preconditions", "SIOOBE_FORMATTER", "Ljava/util/function/BiFunction;"), (53, "BoardCrossing$Reade\x72", "KEPT", "[Ljava/lang/String;"), (54, "BoardCrossing$Reade\x72", "NAMED", "[Ljava/lang/String;")]
abbrev ai_iN : MethodName := ⟨"java/util/Iterato\x72", "next", "()Ljava/lang/Object;"⟩
abbrev ai_iH : MethodName := ⟨"java/util/Iterato\x72", "hasNext", "()Z"⟩
def ai_K (G : ai_G) (D : va_G) (dA : Nat → ClassId) (B : Nat) (H0 : Heap) (U : State) : Prop :=
  va_K D ai_cl (ai_tys dA) U ∧ (∀ w ∈ ai_nw, va_Nw w U) ∧ va_AO "java/lang/Object" U ∧ va_AO "BoardCrossing$Kept" U ∧
  va_Fw "java/util/ArrayList$It\x72" ai_iH yJ10_hasNext U ∧ va_Fw "java/util/ArrayList$It\x72" ai_iN yJ10_next U ∧
  (∀ e ∈ ai_sts, va_Z e.2.1 e.2.2.1 e.2.2.2 (G.1 e.1) (ai_A B) U H0) ∧
  (∀ e ∈ ai_strs, ∃ a : Nat, G.1 e.1 = .ref a ∧ vk_R "BoardCrossing$Reade\x72" e.2.1 e.2.2 a U) ∧
  (∃ mi : Nat, G.1 ai_kMirror = .ref mi ∧ va_Mi "[Ljava/lang/Object;" mi U) ∧
  (∀ a x, G.2 a = some x → a < B ∧ ai_oldOK U H0 B a x) ∧ B ≤ H0.size
theorem ai_oldOK.moved {u U : State} {H0 : Heap} {B a : Nat} {x : ai_C} (hvm : u.vm.Alike U.vm) (h : ai_oldOK u H0 B a x) : ai_oldOK U H0 B a x := by
  rcases x with ⟨t, x⟩ | ⟨c, f⟩
  · obtain ⟨ht, scr, h1, h2, h3⟩ := h
    exact ⟨ht, scr, h1, State.isArrayOf_alike hvm h2, h3⟩
  · obtain ⟨h1, h2, h3, h4⟩ := h
    exact ⟨h1, h2.moved hvm, h3.moved hvm, h4.moved hvm⟩
theorem ai_nw_warm {w : Cond} (hs : ai_shape w = true) {s U : State} (hW : s.WarmedH U.vm) (h : va_Nw w s) : va_Nw w U := by
  cases w <;> first | exact va_Nw.warmF hW h | exact va_Nw.warmM hW h | exact va_Nw.warmC hW h | exact va_Nw.warmD hW h | (exact absurd hs (by simp [ai_shape]))
theorem ai_K.warm {G : ai_G} {D : va_G} {dA : Nat → ClassId} {B : Nat} {H0 : Heap} {s U : State} (hW : s.WarmedH U.vm) (h : ai_K G D dA B H0 s) : ai_K G D dA B H0 U := by
  obtain ⟨h1, h2, h3, h4, h5, h6, h7, h8, ⟨mi, h9, h9'⟩, h10, h11⟩ := h
  exact ⟨va_K.moved hW.alike h1, fun w hw => ai_nw_warm (ai_nws w hw) hW (h2 w hw), h3.moved hW.alike, h4.moved hW.alike, h5.moved (by decide) hW.alike, h6.moved (by decide) hW.alike,
    fun e he => (h7 e he).moved hW.alike, fun e he => by obtain ⟨a, ha, hr⟩ := h8 e he; exact ⟨a, ha, hr.warm hW⟩, ⟨mi, h9, h9'.moved hW.alike⟩, fun a x e => ⟨(h10 a x e).1, (h10 a x e).2.moved hW.alike⟩, h11⟩
/-- frames don't count -/
theorem ai_K.same {G : ai_G} {D : va_G} {dA : Nat → ClassId} {B : Nat} {H0 : Heap} {s U : State} (hv : U.vm = s.vm) (h : ai_K G D dA B H0 s) : ai_K G D dA B H0 U := by
  have hW : s.WarmedH U.vm := by rw [hv]; exact State.WarmedH.refl s
  exact h.warm hW

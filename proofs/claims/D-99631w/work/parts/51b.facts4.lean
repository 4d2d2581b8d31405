/-! the other sites (printed by tools/print_facts.py) -/
set_option maxRecDepth 100000
theorem ai_nt_ok0 : ∀ e ∈ ai_ntl 0, e.2 < ai_ncl ∧ Cond.classLink (ai_cn 0) e.1 (ai_cn e.2) ∈ lw_all := by
  unfold ai_ntl
  exact List.forall_mem_cons.mpr ⟨⟨by decide, q172⟩,
    List.forall_mem_cons.mpr ⟨⟨by decide, q285⟩,
    List.forall_mem_cons.mpr ⟨⟨by decide, q328⟩,
    List.forall_mem_cons.mpr ⟨⟨by decide, q393⟩,
    List.forall_mem_cons.mpr ⟨⟨by decide, q395⟩,
    List.forall_mem_cons.mpr ⟨⟨by decide, q419⟩,
    List.forall_mem_cons.mpr ⟨⟨by decide, q436⟩,
    List.forall_mem_cons.mpr ⟨⟨by decide, q589⟩,
    List.forall_mem_cons.mpr ⟨⟨by decide, q1384⟩,
    fun _ h => absurd h List.not_mem_nil⟩⟩⟩⟩⟩⟩⟩⟩⟩
theorem ai_nt_ok1 : ∀ e ∈ ai_ntl 1, e.2 < ai_ncl ∧ Cond.classLink (ai_cn 1) e.1 (ai_cn e.2) ∈ lw_all := by
  unfold ai_ntl
  exact List.forall_mem_cons.mpr ⟨⟨by decide, q178⟩,
    fun _ h => absurd h List.not_mem_nil⟩
theorem ai_nt_ok8 : ∀ e ∈ ai_ntl 8, e.2 < ai_ncl ∧ Cond.classLink (ai_cn 8) e.1 (ai_cn e.2) ∈ lw_all := by
  unfold ai_ntl
  exact List.forall_mem_cons.mpr ⟨⟨by decide, q595⟩,
    List.forall_mem_cons.mpr ⟨⟨by decide, q773⟩,
    List.forall_mem_cons.mpr ⟨⟨by decide, q935⟩,
    List.forall_mem_cons.mpr ⟨⟨by decide, q1016⟩,
    List.forall_mem_cons.mpr ⟨⟨by decide, q965⟩,
    List.forall_mem_cons.mpr ⟨⟨by decide, q996⟩,
    List.forall_mem_cons.mpr ⟨⟨by decide, q1006⟩,
    fun _ h => absurd h List.not_mem_nil⟩⟩⟩⟩⟩⟩⟩
theorem ai_nt_ok16 : ∀ e ∈ ai_ntl 16, e.2 < ai_ncl ∧ Cond.classLink (ai_cn 16) e.1 (ai_cn e.2) ∈ lw_all := by
  unfold ai_ntl
  exact List.forall_mem_cons.mpr ⟨⟨by decide, q789⟩,
    fun _ h => absurd h List.not_mem_nil⟩
theorem ai_nt_ok31 : ∀ e ∈ ai_ntl 31, e.2 < ai_ncl ∧ Cond.classLink (ai_cn 31) e.1 (ai_cn e.2) ∈ lw_all := by
  unfold ai_ntl
  exact List.forall_mem_cons.mpr ⟨⟨by decide, q164⟩,
    List.forall_mem_cons.mpr ⟨⟨by decide, q1472⟩,
    fun _ h => absurd h List.not_mem_nil⟩⟩
theorem ai_nt_ok : ∀ o, ∀ e ∈ ai_ntl o, e.2 < ai_ncl ∧ Cond.classLink (ai_cn o) e.1 (ai_cn e.2) ∈ lw_all := by
  intro o
  match o with
  | 0 => exact ai_nt_ok0
  | 1 => exact ai_nt_ok1
  | 2 => exact fun e h => absurd h (by unfold ai_ntl; exact List.not_mem_nil)
  | 3 => exact fun e h => absurd h (by unfold ai_ntl; exact List.not_mem_nil)
  | 4 => exact fun e h => absurd h (by unfold ai_ntl; exact List.not_mem_nil)
  | 5 => exact fun e h => absurd h (by unfold ai_ntl; exact List.not_mem_nil)
  | 6 => exact fun e h => absurd h (by unfold ai_ntl; exact List.not_mem_nil)
  | 7 => exact fun e h => absurd h (by unfold ai_ntl; exact List.not_mem_nil)
  | 8 => exact ai_nt_ok8
  | 9 => exact fun e h => absurd h (by unfold ai_ntl; exact List.not_mem_nil)
  | 10 => exact fun e h => absurd h (by unfold ai_ntl; exact List.not_mem_nil)
  | 11 => exact fun e h => absurd h (by unfold ai_ntl; exact List.not_mem_nil)
  | 12 => exact fun e h => absurd h (by unfold ai_ntl; exact List.not_mem_nil)
  | 13 => exact fun e h => absurd h (by unfold ai_ntl; exact List.not_mem_nil)
  | 14 => exact fun e h => absurd h (by unfold ai_ntl; exact List.not_mem_nil)
  | 15 => exact fun e h => absurd h (by unfold ai_ntl; exact List.not_mem_nil)
  | 16 => exact ai_nt_ok16
  | 17 => exact fun e h => absurd h (by unfold ai_ntl; exact List.not_mem_nil)
  | 18 => exact fun e h => absurd h (by unfold ai_ntl; exact List.not_mem_nil)
  | 19 => exact fun e h => absurd h (by unfold ai_ntl; exact List.not_mem_nil)
  | 20 => exact fun e h => absurd h (by unfold ai_ntl; exact List.not_mem_nil)
  | 21 => exact fun e h => absurd h (by unfold ai_ntl; exact List.not_mem_nil)
  | 22 => exact fun e h => absurd h (by unfold ai_ntl; exact List.not_mem_nil)
  | 23 => exact fun e h => absurd h (by unfold ai_ntl; exact List.not_mem_nil)
  | 24 => exact fun e h => absurd h (by unfold ai_ntl; exact List.not_mem_nil)
  | 25 => exact fun e h => absurd h (by unfold ai_ntl; exact List.not_mem_nil)
  | 26 => exact fun e h => absurd h (by unfold ai_ntl; exact List.not_mem_nil)
  | 27 => exact fun e h => absurd h (by unfold ai_ntl; exact List.not_mem_nil)
  | 28 => exact fun e h => absurd h (by unfold ai_ntl; exact List.not_mem_nil)
  | 29 => exact fun e h => absurd h (by unfold ai_ntl; exact List.not_mem_nil)
  | 30 => exact fun e h => absurd h (by unfold ai_ntl; exact List.not_mem_nil)
  | 31 => exact ai_nt_ok31
  | o + 32 => exact fun e h => absurd h (by unfold ai_ntl; exact List.not_mem_nil)
theorem ai_at_ok0 : ∀ e ∈ ai_atl 0, (e.2 = 4 ∧ Cond.classLink (ai_cn 0) e.1 "java/lang/Object" ∈ lw_all) ∨ (e.2 = 5 ∧ Cond.classLink (ai_cn 0) e.1 "BoardCrossing$Kept" ∈ lw_all) := by
  unfold ai_atl
  exact List.forall_mem_cons.mpr ⟨Or.inr ⟨rfl, q436⟩,
    fun _ h => absurd h List.not_mem_nil⟩
theorem ai_at_ok16 : ∀ e ∈ ai_atl 16, (e.2 = 4 ∧ Cond.classLink (ai_cn 16) e.1 "java/lang/Object" ∈ lw_all) ∨ (e.2 = 5 ∧ Cond.classLink (ai_cn 16) e.1 "BoardCrossing$Kept" ∈ lw_all) := by
  unfold ai_atl
  exact List.forall_mem_cons.mpr ⟨Or.inl ⟨rfl, q930⟩,
    fun _ h => absurd h List.not_mem_nil⟩
theorem ai_at_ok29 : ∀ e ∈ ai_atl 29, (e.2 = 4 ∧ Cond.classLink (ai_cn 29) e.1 "java/lang/Object" ∈ lw_all) ∨ (e.2 = 5 ∧ Cond.classLink (ai_cn 29) e.1 "BoardCrossing$Kept" ∈ lw_all) := by
  unfold ai_atl
  exact List.forall_mem_cons.mpr ⟨Or.inl ⟨rfl, q922⟩,
    fun _ h => absurd h List.not_mem_nil⟩
theorem ai_at_ok : ∀ o, ∀ e ∈ ai_atl o, (e.2 = 4 ∧ Cond.classLink (ai_cn o) e.1 "java/lang/Object" ∈ lw_all) ∨ (e.2 = 5 ∧ Cond.classLink (ai_cn o) e.1 "BoardCrossing$Kept" ∈ lw_all) := by
  intro o
  match o with
  | 0 => exact ai_at_ok0
  | 1 => exact fun e h => absurd h (by unfold ai_atl; exact List.not_mem_nil)
  | 2 => exact fun e h => absurd h (by unfold ai_atl; exact List.not_mem_nil)
  | 3 => exact fun e h => absurd h (by unfold ai_atl; exact List.not_mem_nil)
  | 4 => exact fun e h => absurd h (by unfold ai_atl; exact List.not_mem_nil)
  | 5 => exact fun e h => absurd h (by unfold ai_atl; exact List.not_mem_nil)
  | 6 => exact fun e h => absurd h (by unfold ai_atl; exact List.not_mem_nil)
  | 7 => exact fun e h => absurd h (by unfold ai_atl; exact List.not_mem_nil)
  | 8 => exact fun e h => absurd h (by unfold ai_atl; exact List.not_mem_nil)
  | 9 => exact fun e h => absurd h (by unfold ai_atl; exact List.not_mem_nil)
  | 10 => exact fun e h => absurd h (by unfold ai_atl; exact List.not_mem_nil)
  | 11 => exact fun e h => absurd h (by unfold ai_atl; exact List.not_mem_nil)
  | 12 => exact fun e h => absurd h (by unfold ai_atl; exact List.not_mem_nil)
  | 13 => exact fun e h => absurd h (by unfold ai_atl; exact List.not_mem_nil)
  | 14 => exact fun e h => absurd h (by unfold ai_atl; exact List.not_mem_nil)
  | 15 => exact fun e h => absurd h (by unfold ai_atl; exact List.not_mem_nil)
  | 16 => exact ai_at_ok16
  | 17 => exact fun e h => absurd h (by unfold ai_atl; exact List.not_mem_nil)
  | 18 => exact fun e h => absurd h (by unfold ai_atl; exact List.not_mem_nil)
  | 19 => exact fun e h => absurd h (by unfold ai_atl; exact List.not_mem_nil)
  | 20 => exact fun e h => absurd h (by unfold ai_atl; exact List.not_mem_nil)
  | 21 => exact fun e h => absurd h (by unfold ai_atl; exact List.not_mem_nil)
  | 22 => exact fun e h => absurd h (by unfold ai_atl; exact List.not_mem_nil)
  | 23 => exact fun e h => absurd h (by unfold ai_atl; exact List.not_mem_nil)
  | 24 => exact fun e h => absurd h (by unfold ai_atl; exact List.not_mem_nil)
  | 25 => exact fun e h => absurd h (by unfold ai_atl; exact List.not_mem_nil)
  | 26 => exact fun e h => absurd h (by unfold ai_atl; exact List.not_mem_nil)
  | 27 => exact fun e h => absurd h (by unfold ai_atl; exact List.not_mem_nil)
  | 28 => exact fun e h => absurd h (by unfold ai_atl; exact List.not_mem_nil)
  | 29 => exact ai_at_ok29
  | o + 30 => exact fun e h => absurd h (by unfold ai_atl; exact List.not_mem_nil)
theorem ai_kt_ok0 : ∀ e ∈ ai_ktl 0, ∃ nm : String, Cond.classLink (ai_cn 0) e.1 nm ∈ lw_all ∧ (ai_cn e.2 = nm ∨ Cond.castable (ai_cn e.2) nm ∈ ai_nw) := by
  unfold ai_ktl
  exact List.forall_mem_cons.mpr ⟨⟨"BoardCrossing$Kept", q436, Or.inl rfl⟩,
    List.forall_mem_cons.mpr ⟨⟨"BoardCrossing$Board", q1055, Or.inl rfl⟩,
    List.forall_mem_cons.mpr ⟨⟨"BoardCrossing$Load", q1087, Or.inl rfl⟩,
    List.forall_mem_cons.mpr ⟨⟨"BoardCrossing$Sight", q1384, Or.inl rfl⟩,
    fun _ h => absurd h List.not_mem_nil⟩⟩⟩⟩
theorem ai_kt_ok1 : ∀ e ∈ ai_ktl 1, ∃ nm : String, Cond.classLink (ai_cn 1) e.1 nm ∈ lw_all ∧ (ai_cn e.2 = nm ∨ Cond.castable (ai_cn e.2) nm ∈ ai_nw) := by
  unfold ai_ktl
  exact List.forall_mem_cons.mpr ⟨⟨"BoardCrossing$Board", q1102, Or.inl rfl⟩,
    List.forall_mem_cons.mpr ⟨⟨"BoardCrossing$Load", q1073, Or.inl rfl⟩,
    fun _ h => absurd h List.not_mem_nil⟩⟩
theorem ai_kt_ok2 : ∀ e ∈ ai_ktl 2, ∃ nm : String, Cond.classLink (ai_cn 2) e.1 nm ∈ lw_all ∧ (ai_cn e.2 = nm ∨ Cond.castable (ai_cn e.2) nm ∈ ai_nw) := by
  unfold ai_ktl
  exact List.forall_mem_cons.mpr ⟨⟨"BoardCrossing$Board", q474, Or.inl rfl⟩,
    fun _ h => absurd h List.not_mem_nil⟩
theorem ai_kt_ok8 : ∀ e ∈ ai_ktl 8, ∃ nm : String, Cond.classLink (ai_cn 8) e.1 nm ∈ lw_all ∧ (ai_cn e.2 = nm ∨ Cond.castable (ai_cn e.2) nm ∈ ai_nw) := by
  unfold ai_ktl
  exact List.forall_mem_cons.mpr ⟨⟨"BoardCrossing$Called", q831, Or.inr nw2237⟩,
    List.forall_mem_cons.mpr ⟨⟨"BoardCrossing$Called", q831, Or.inr nw2238⟩,
    fun _ h => absurd h List.not_mem_nil⟩⟩
theorem ai_kt_ok : ∀ o, ∀ e ∈ ai_ktl o, ∃ nm : String, Cond.classLink (ai_cn o) e.1 nm ∈ lw_all ∧ (ai_cn e.2 = nm ∨ Cond.castable (ai_cn e.2) nm ∈ ai_nw) := by
  intro o
  match o with
  | 0 => exact ai_kt_ok0
  | 1 => exact ai_kt_ok1
  | 2 => exact ai_kt_ok2
  | 3 => exact fun e h => absurd h (by unfold ai_ktl; exact List.not_mem_nil)
  | 4 => exact fun e h => absurd h (by unfold ai_ktl; exact List.not_mem_nil)
  | 5 => exact fun e h => absurd h (by unfold ai_ktl; exact List.not_mem_nil)
  | 6 => exact fun e h => absurd h (by unfold ai_ktl; exact List.not_mem_nil)
  | 7 => exact fun e h => absurd h (by unfold ai_ktl; exact List.not_mem_nil)
  | 8 => exact ai_kt_ok8
  | o + 9 => exact fun e h => absurd h (by unfold ai_ktl; exact List.not_mem_nil)
theorem ai_li_ok0 : ∀ e ∈ ai_lil 0, Cond.constant (ai_cn 0) e.1 e.2 ∈ lw_all := by
  unfold ai_lil
  exact List.forall_mem_cons.mpr ⟨q1426,
    fun _ h => absurd h List.not_mem_nil⟩
theorem ai_li_ok7 : ∀ e ∈ ai_lil 7, Cond.constant (ai_cn 7) e.1 e.2 ∈ lw_all := by
  unfold ai_lil
  exact List.forall_mem_cons.mpr ⟨q2044,
    List.forall_mem_cons.mpr ⟨q2194,
    fun _ h => absurd h List.not_mem_nil⟩⟩
theorem ai_li_ok27 : ∀ e ∈ ai_lil 27, Cond.constant (ai_cn 27) e.1 e.2 ∈ lw_all := by
  unfold ai_lil
  exact List.forall_mem_cons.mpr ⟨q888,
    fun _ h => absurd h List.not_mem_nil⟩
theorem ai_li_ok30 : ∀ e ∈ ai_lil 30, Cond.constant (ai_cn 30) e.1 e.2 ∈ lw_all := by
  unfold ai_lil
  exact List.forall_mem_cons.mpr ⟨q1298,
    List.forall_mem_cons.mpr ⟨q1299,
    List.forall_mem_cons.mpr ⟨q1300,
    fun _ h => absurd h List.not_mem_nil⟩⟩⟩
theorem ai_li_ok : ∀ o, ∀ e ∈ ai_lil o, Cond.constant (ai_cn o) e.1 e.2 ∈ lw_all := by
  intro o
  match o with
  | 0 => exact ai_li_ok0
  | 1 => exact fun e h => absurd h (by unfold ai_lil; exact List.not_mem_nil)
  | 2 => exact fun e h => absurd h (by unfold ai_lil; exact List.not_mem_nil)
  | 3 => exact fun e h => absurd h (by unfold ai_lil; exact List.not_mem_nil)
  | 4 => exact fun e h => absurd h (by unfold ai_lil; exact List.not_mem_nil)
  | 5 => exact fun e h => absurd h (by unfold ai_lil; exact List.not_mem_nil)
  | 6 => exact fun e h => absurd h (by unfold ai_lil; exact List.not_mem_nil)
  | 7 => exact ai_li_ok7
  | 8 => exact fun e h => absurd h (by unfold ai_lil; exact List.not_mem_nil)
  | 9 => exact fun e h => absurd h (by unfold ai_lil; exact List.not_mem_nil)
  | 10 => exact fun e h => absurd h (by unfold ai_lil; exact List.not_mem_nil)
  | 11 => exact fun e h => absurd h (by unfold ai_lil; exact List.not_mem_nil)
  | 12 => exact fun e h => absurd h (by unfold ai_lil; exact List.not_mem_nil)
  | 13 => exact fun e h => absurd h (by unfold ai_lil; exact List.not_mem_nil)
  | 14 => exact fun e h => absurd h (by unfold ai_lil; exact List.not_mem_nil)
  | 15 => exact fun e h => absurd h (by unfold ai_lil; exact List.not_mem_nil)
  | 16 => exact fun e h => absurd h (by unfold ai_lil; exact List.not_mem_nil)
  | 17 => exact fun e h => absurd h (by unfold ai_lil; exact List.not_mem_nil)
  | 18 => exact fun e h => absurd h (by unfold ai_lil; exact List.not_mem_nil)
  | 19 => exact fun e h => absurd h (by unfold ai_lil; exact List.not_mem_nil)
  | 20 => exact fun e h => absurd h (by unfold ai_lil; exact List.not_mem_nil)
  | 21 => exact fun e h => absurd h (by unfold ai_lil; exact List.not_mem_nil)
  | 22 => exact fun e h => absurd h (by unfold ai_lil; exact List.not_mem_nil)
  | 23 => exact fun e h => absurd h (by unfold ai_lil; exact List.not_mem_nil)
  | 24 => exact fun e h => absurd h (by unfold ai_lil; exact List.not_mem_nil)
  | 25 => exact fun e h => absurd h (by unfold ai_lil; exact List.not_mem_nil)
  | 26 => exact fun e h => absurd h (by unfold ai_lil; exact List.not_mem_nil)
  | 27 => exact ai_li_ok27
  | 28 => exact fun e h => absurd h (by unfold ai_lil; exact List.not_mem_nil)
  | 29 => exact fun e h => absurd h (by unfold ai_lil; exact List.not_mem_nil)
  | 30 => exact ai_li_ok30
  | o + 31 => exact fun e h => absurd h (by unfold ai_lil; exact List.not_mem_nil)
theorem ai_ls_ok8 : ∀ e ∈ ai_lsl 8, (e.2 = ai_kMirror ∧ Cond.classLink (ai_cn 8) e.1 "[Ljava/lang/Object;" ∈ lw_all) ∨ (ai_cn 8 = "BoardCrossing$Reade\x72" ∧ ∃ tx : String, (e.2, e.1, tx) ∈ ai_strs) := by
  unfold ai_lsl
  exact List.forall_mem_cons.mpr ⟨Or.inr ⟨rfl, "at", List.mem_of_getElem? (i := 9) rfl⟩,
    List.forall_mem_cons.mpr ⟨Or.inr ⟨rfl, "wide", List.mem_of_getElem? (i := 10) rfl⟩,
    List.forall_mem_cons.mpr ⟨Or.inr ⟨rfl, "bears", List.mem_of_getElem? (i := 11) rfl⟩,
    List.forall_mem_cons.mpr ⟨Or.inr ⟨rfl, "o\x72", List.mem_of_getElem? (i := 14) rfl⟩,
    List.forall_mem_cons.mpr ⟨Or.inr ⟨rfl, "and", List.mem_of_getElem? (i := 13) rfl⟩,
    List.forall_mem_cons.mpr ⟨Or.inr ⟨rfl, "not", List.mem_of_getElem? (i := 12) rfl⟩,
    List.forall_mem_cons.mpr ⟨Or.inr ⟨rfl, "wate\x72", List.mem_of_getElem? (i := 0) rfl⟩,
    List.forall_mem_cons.mpr ⟨Or.inr ⟨rfl, "current", List.mem_of_getElem? (i := 1) rfl⟩,
    List.forall_mem_cons.mpr ⟨Or.inr ⟨rfl, "iron", List.mem_of_getElem? (i := 2) rfl⟩,
    List.forall_mem_cons.mpr ⟨Or.inr ⟨rfl, "board", List.mem_of_getElem? (i := 3) rfl⟩,
    List.forall_mem_cons.mpr ⟨Or.inr ⟨rfl, "load", List.mem_of_getElem? (i := 4) rfl⟩,
    List.forall_mem_cons.mpr ⟨Or.inr ⟨rfl, "heat", List.mem_of_getElem? (i := 5) rfl⟩,
    List.forall_mem_cons.mpr ⟨Or.inr ⟨rfl, "flood", List.mem_of_getElem? (i := 6) rfl⟩,
    List.forall_mem_cons.mpr ⟨Or.inr ⟨rfl, "draw", List.mem_of_getElem? (i := 7) rfl⟩,
    List.forall_mem_cons.mpr ⟨Or.inr ⟨rfl, "by", List.mem_of_getElem? (i := 8) rfl⟩,
    fun _ h => absurd h List.not_mem_nil⟩⟩⟩⟩⟩⟩⟩⟩⟩⟩⟩⟩⟩⟩⟩
theorem ai_ls_ok29 : ∀ e ∈ ai_lsl 29, (e.2 = ai_kMirror ∧ Cond.classLink (ai_cn 29) e.1 "[Ljava/lang/Object;" ∈ lw_all) ∨ (ai_cn 29 = "BoardCrossing$Reade\x72" ∧ ∃ tx : String, (e.2, e.1, tx) ∈ ai_strs) := by
  unfold ai_lsl
  exact List.forall_mem_cons.mpr ⟨Or.inl ⟨rfl, q920⟩,
    fun _ h => absurd h List.not_mem_nil⟩
theorem ai_ls_ok : ∀ o, ∀ e ∈ ai_lsl o, (e.2 = ai_kMirror ∧ Cond.classLink (ai_cn o) e.1 "[Ljava/lang/Object;" ∈ lw_all) ∨ (ai_cn o = "BoardCrossing$Reade\x72" ∧ ∃ tx : String, (e.2, e.1, tx) ∈ ai_strs) := by
  intro o
  match o with
  | 0 => exact fun e h => absurd h (by unfold ai_lsl; exact List.not_mem_nil)
  | 1 => exact fun e h => absurd h (by unfold ai_lsl; exact List.not_mem_nil)
  | 2 => exact fun e h => absurd h (by unfold ai_lsl; exact List.not_mem_nil)
  | 3 => exact fun e h => absurd h (by unfold ai_lsl; exact List.not_mem_nil)
  | 4 => exact fun e h => absurd h (by unfold ai_lsl; exact List.not_mem_nil)
  | 5 => exact fun e h => absurd h (by unfold ai_lsl; exact List.not_mem_nil)
  | 6 => exact fun e h => absurd h (by unfold ai_lsl; exact List.not_mem_nil)
  | 7 => exact fun e h => absurd h (by unfold ai_lsl; exact List.not_mem_nil)
  | 8 => exact ai_ls_ok8
  | 9 => exact fun e h => absurd h (by unfold ai_lsl; exact List.not_mem_nil)
  | 10 => exact fun e h => absurd h (by unfold ai_lsl; exact List.not_mem_nil)
  | 11 => exact fun e h => absurd h (by unfold ai_lsl; exact List.not_mem_nil)
  | 12 => exact fun e h => absurd h (by unfold ai_lsl; exact List.not_mem_nil)
  | 13 => exact fun e h => absurd h (by unfold ai_lsl; exact List.not_mem_nil)
  | 14 => exact fun e h => absurd h (by unfold ai_lsl; exact List.not_mem_nil)
  | 15 => exact fun e h => absurd h (by unfold ai_lsl; exact List.not_mem_nil)
  | 16 => exact fun e h => absurd h (by unfold ai_lsl; exact List.not_mem_nil)
  | 17 => exact fun e h => absurd h (by unfold ai_lsl; exact List.not_mem_nil)
  | 18 => exact fun e h => absurd h (by unfold ai_lsl; exact List.not_mem_nil)
  | 19 => exact fun e h => absurd h (by unfold ai_lsl; exact List.not_mem_nil)
  | 20 => exact fun e h => absurd h (by unfold ai_lsl; exact List.not_mem_nil)
  | 21 => exact fun e h => absurd h (by unfold ai_lsl; exact List.not_mem_nil)
  | 22 => exact fun e h => absurd h (by unfold ai_lsl; exact List.not_mem_nil)
  | 23 => exact fun e h => absurd h (by unfold ai_lsl; exact List.not_mem_nil)
  | 24 => exact fun e h => absurd h (by unfold ai_lsl; exact List.not_mem_nil)
  | 25 => exact fun e h => absurd h (by unfold ai_lsl; exact List.not_mem_nil)
  | 26 => exact fun e h => absurd h (by unfold ai_lsl; exact List.not_mem_nil)
  | 27 => exact fun e h => absurd h (by unfold ai_lsl; exact List.not_mem_nil)
  | 28 => exact fun e h => absurd h (by unfold ai_lsl; exact List.not_mem_nil)
  | 29 => exact ai_ls_ok29
  | o + 30 => exact fun e h => absurd h (by unfold ai_lsl; exact List.not_mem_nil)
theorem ai_l2_ok7 : ∀ e ∈ ai_l2l 7, Cond.constantLong (ai_cn 7) e.1 e.2 ∈ lw_all := by
  unfold ai_l2l
  exact List.forall_mem_cons.mpr ⟨q1767,
    List.forall_mem_cons.mpr ⟨q1784,
    List.forall_mem_cons.mpr ⟨q1793,
    List.forall_mem_cons.mpr ⟨q1798,
    List.forall_mem_cons.mpr ⟨q1803,
    List.forall_mem_cons.mpr ⟨q1808,
    List.forall_mem_cons.mpr ⟨q1825,
    List.forall_mem_cons.mpr ⟨q1826,
    List.forall_mem_cons.mpr ⟨q1827,
    List.forall_mem_cons.mpr ⟨q1828,
    List.forall_mem_cons.mpr ⟨q1829,
    List.forall_mem_cons.mpr ⟨q1830,
    List.forall_mem_cons.mpr ⟨q1831,
    List.forall_mem_cons.mpr ⟨q1832,
    List.forall_mem_cons.mpr ⟨q1833,
    List.forall_mem_cons.mpr ⟨q1834,
    List.forall_mem_cons.mpr ⟨q1835,
    List.forall_mem_cons.mpr ⟨q1836,
    List.forall_mem_cons.mpr ⟨q1837,
    fun _ h => absurd h List.not_mem_nil⟩⟩⟩⟩⟩⟩⟩⟩⟩⟩⟩⟩⟩⟩⟩⟩⟩⟩⟩
theorem ai_l2_ok : ∀ o, ∀ e ∈ ai_l2l o, Cond.constantLong (ai_cn o) e.1 e.2 ∈ lw_all := by
  intro o
  match o with
  | 0 => exact fun e h => absurd h (by unfold ai_l2l; exact List.not_mem_nil)
  | 1 => exact fun e h => absurd h (by unfold ai_l2l; exact List.not_mem_nil)
  | 2 => exact fun e h => absurd h (by unfold ai_l2l; exact List.not_mem_nil)
  | 3 => exact fun e h => absurd h (by unfold ai_l2l; exact List.not_mem_nil)
  | 4 => exact fun e h => absurd h (by unfold ai_l2l; exact List.not_mem_nil)
  | 5 => exact fun e h => absurd h (by unfold ai_l2l; exact List.not_mem_nil)
  | 6 => exact fun e h => absurd h (by unfold ai_l2l; exact List.not_mem_nil)
  | 7 => exact ai_l2_ok7
  | o + 8 => exact fun e h => absurd h (by unfold ai_l2l; exact List.not_mem_nil)
theorem ai_gt_ok8 : ∀ e ∈ ai_gtl 8, ∃ C n d : String, (e.2, C, n, d) ∈ ai_sts ∧ Cond.fieldLink (ai_cn 8) e.1 C n d ∈ lw_all := by
  unfold ai_gtl
  exact List.forall_mem_cons.mpr ⟨⟨_, _, _, List.mem_of_getElem? (i := 3) rfl, q779⟩,
    List.forall_mem_cons.mpr ⟨⟨_, _, _, List.mem_of_getElem? (i := 4) rfl, q994⟩,
    fun _ h => absurd h List.not_mem_nil⟩⟩
theorem ai_gt_ok16 : ∀ e ∈ ai_gtl 16, ∃ C n d : String, (e.2, C, n, d) ∈ ai_sts ∧ Cond.fieldLink (ai_cn 16) e.1 C n d ∈ lw_all := by
  unfold ai_gtl
  exact List.forall_mem_cons.mpr ⟨⟨_, _, _, List.mem_of_getElem? (i := 0) rfl, q190⟩,
    fun _ h => absurd h List.not_mem_nil⟩
theorem ai_gt_ok18 : ∀ e ∈ ai_gtl 18, ∃ C n d : String, (e.2, C, n, d) ∈ ai_sts ∧ Cond.fieldLink (ai_cn 18) e.1 C n d ∈ lw_all := by
  unfold ai_gtl
  exact List.forall_mem_cons.mpr ⟨⟨_, _, _, List.mem_of_getElem? (i := 1) rfl, q681⟩,
    List.forall_mem_cons.mpr ⟨⟨_, _, _, List.mem_of_getElem? (i := 2) rfl, q697⟩,
    fun _ h => absurd h List.not_mem_nil⟩⟩
theorem ai_gt_ok : ∀ o, ∀ e ∈ ai_gtl o, ∃ C n d : String, (e.2, C, n, d) ∈ ai_sts ∧ Cond.fieldLink (ai_cn o) e.1 C n d ∈ lw_all := by
  intro o
  match o with
  | 0 => exact fun e h => absurd h (by unfold ai_gtl; exact List.not_mem_nil)
  | 1 => exact fun e h => absurd h (by unfold ai_gtl; exact List.not_mem_nil)
  | 2 => exact fun e h => absurd h (by unfold ai_gtl; exact List.not_mem_nil)
  | 3 => exact fun e h => absurd h (by unfold ai_gtl; exact List.not_mem_nil)
  | 4 => exact fun e h => absurd h (by unfold ai_gtl; exact List.not_mem_nil)
  | 5 => exact fun e h => absurd h (by unfold ai_gtl; exact List.not_mem_nil)
  | 6 => exact fun e h => absurd h (by unfold ai_gtl; exact List.not_mem_nil)
  | 7 => exact fun e h => absurd h (by unfold ai_gtl; exact List.not_mem_nil)
  | 8 => exact ai_gt_ok8
  | 9 => exact fun e h => absurd h (by unfold ai_gtl; exact List.not_mem_nil)
  | 10 => exact fun e h => absurd h (by unfold ai_gtl; exact List.not_mem_nil)
  | 11 => exact fun e h => absurd h (by unfold ai_gtl; exact List.not_mem_nil)
  | 12 => exact fun e h => absurd h (by unfold ai_gtl; exact List.not_mem_nil)
  | 13 => exact fun e h => absurd h (by unfold ai_gtl; exact List.not_mem_nil)
  | 14 => exact fun e h => absurd h (by unfold ai_gtl; exact List.not_mem_nil)
  | 15 => exact fun e h => absurd h (by unfold ai_gtl; exact List.not_mem_nil)
  | 16 => exact ai_gt_ok16
  | 17 => exact fun e h => absurd h (by unfold ai_gtl; exact List.not_mem_nil)
  | 18 => exact ai_gt_ok18
  | o + 19 => exact fun e h => absurd h (by unfold ai_gtl; exact List.not_mem_nil)
theorem ai_oI_ok : ∀ e ∈ ai_oIl, Cond.methodLink (ai_cn e.1) e.2 objectInit ∈ lw_all := by
  unfold ai_oIl
  exact List.forall_mem_cons.mpr ⟨q169, List.forall_mem_cons.mpr ⟨q177, List.forall_mem_cons.mpr ⟨q290, List.forall_mem_cons.mpr ⟨q442, List.forall_mem_cons.mpr ⟨q1477, List.forall_mem_cons.mpr ⟨q594, List.forall_mem_cons.mpr ⟨q1389, List.forall_mem_cons.mpr ⟨q794, List.forall_mem_cons.mpr ⟨q403, List.forall_mem_cons.mpr ⟨q838, List.forall_mem_cons.mpr ⟨q973, List.forall_mem_cons.mpr ⟨q189, fun _ h => absurd h List.not_mem_nil⟩⟩⟩⟩⟩⟩⟩⟩⟩⟩⟩⟩
theorem ai_cpI_ok : ∀ e ∈ ai_cpIl, Cond.methodLink (ai_cn e.1) e.2 arraycopyName ∈ lw_all := by
  unfold ai_cpIl
  exact List.forall_mem_cons.mpr ⟨q1286, List.forall_mem_cons.mpr ⟨q1152, List.forall_mem_cons.mpr ⟨q1144, List.forall_mem_cons.mpr ⟨q926, fun _ h => absurd h List.not_mem_nil⟩⟩⟩⟩
theorem ai_gcI_ok : ∀ e ∈ ai_gcIl, Cond.methodLink (ai_cn e.1) e.2 ⟨"java/lang/Object", "getClass", "()Ljava/lang/Class;"⟩ ∈ lw_all := by
  unfold ai_gcIl
  exact List.forall_mem_cons.mpr ⟨q895, fun _ h => absurd h List.not_mem_nil⟩
theorem ai_wI_ok : ∀ e ∈ ai_wIl, Cond.methodLinkNest (ai_cn e.1) e.2 ⟨"BoardCrossing$Wrong", "<init>", "()V"⟩ "BoardCrossing" ∈ ai_nw := by
  unfold ai_wIl
  exact List.forall_mem_cons.mpr ⟨nw365, fun _ h => absurd h List.not_mem_nil⟩
theorem ai_mxI_ok : ∀ e ∈ ai_mxIl, Cond.methodLink (ai_cn e.1) e.2 Lib.Math.max.name ∈ lw_all := by
  unfold ai_mxIl
  exact List.forall_mem_cons.mpr ⟨q1127, List.forall_mem_cons.mpr ⟨q929, List.forall_mem_cons.mpr ⟨q885, fun _ h => absurd h List.not_mem_nil⟩⟩⟩
theorem ai_mnI_ok : ∀ e ∈ ai_mnIl, Cond.methodLink (ai_cn e.1) e.2 Lib.Math.min.name ∈ lw_all := by
  unfold ai_mnIl
  exact List.forall_mem_cons.mpr ⟨q1126, List.forall_mem_cons.mpr ⟨q1161, List.forall_mem_cons.mpr ⟨q923, fun _ h => absurd h List.not_mem_nil⟩⟩⟩
theorem ai_abI_ok : ∀ e ∈ ai_abIl, Cond.methodLink (ai_cn e.1) e.2 Lib.Math.abs.name ∈ lw_all := by
  unfold ai_abIl
  exact List.forall_mem_cons.mpr ⟨q1225, fun _ h => absurd h List.not_mem_nil⟩
theorem ai_w_oi1 : Cond.instanceMethod objectInit ∈ lw_all := q170
theorem ai_w_oi2 : Cond.code objectInit ⟨#[0xb1]⟩ 1 none ∈ lw_all := q171
theorem ai_w_max1 : Cond.static Lib.Math.max.name ∈ lw_all := q886
theorem ai_w_max2 : Cond.code Lib.Math.max.name Lib.Math.max.code 2 (some .int) ∈ lw_all := q887
theorem ai_w_min1 : Cond.static Lib.Math.min.name ∈ lw_all := q924
theorem ai_w_min2 : Cond.code Lib.Math.min.name Lib.Math.min.code 2 (some .int) ∈ lw_all := q925
theorem ai_w_abs1 : Cond.static Lib.Math.abs.name ∈ lw_all := q1226
theorem ai_w_abs2 : Cond.code Lib.Math.abs.name Lib.Math.abs.code 1 (some .int) ∈ lw_all := q1227
theorem ai_w_mi : Cond.initialized "java/lang/Math" ∈ lw_all := q153
theorem ai_w_ac1 : Cond.native arraycopyName ∈ lw_all := q928
theorem ai_w_ac2 : Cond.static arraycopyName ∈ lw_all := q927
theorem ai_w_ac3 : Cond.initialized "java/lang/System" ∈ lw_all := q155
theorem ai_w_gc1 : Cond.native ⟨"java/lang/Object", "getClass", "()Ljava/lang/Class;"⟩ ∈ lw_all := q916
theorem ai_w_gc2 : Cond.instanceMethod ⟨"java/lang/Object", "getClass", "()Ljava/lang/Class;"⟩ ∈ lw_all := q896
theorem ai_w_gc3 : Cond.selects "[Ljava/lang/Object;" ⟨"java/lang/Object", "getClass", "()Ljava/lang/Class;"⟩ ⟨"java/lang/Object", "getClass", "()Ljava/lang/Class;"⟩ ∈ lw_all := q2260
theorem ai_w_gc4 : Cond.declares ⟨"java/lang/Object", "getClass", "()Ljava/lang/Class;"⟩ ∈ ai_nw := nw2261
theorem ai_w_ar_int : Cond.arrayClass .int ∈ lw_all := q283
theorem ai_w_ar_boolean : Cond.arrayClass .boolean ∈ lw_all := q284
theorem ai_w_ar_byte : Cond.arrayClass .byte ∈ lw_all := q392
theorem ai_w_ar_long : Cond.arrayClass .long ∈ lw_all := q1725
theorem ai_ft_strs0 : ∀ e ∈ ai_ftl 0, ai_ncl ≤ e.2.1 → (e.2.2 = 0 ∧ Cond.fieldLink (ai_cn 0) e.1 ai_sN "value" "[B" ∈ lw_all) ∨ (e.2.2 = 1 ∧ Cond.fieldLink (ai_cn 0) e.1 ai_sN "code\x72" "B" ∈ lw_all) := by
  unfold ai_ftl
  exact List.forall_mem_cons.mpr ⟨fun h => absurd h (by decide),
    List.forall_mem_cons.mpr ⟨fun h => absurd h (by decide),
    List.forall_mem_cons.mpr ⟨fun h => absurd h (by decide),
    List.forall_mem_cons.mpr ⟨fun h => absurd h (by decide),
    List.forall_mem_cons.mpr ⟨fun h => absurd h (by decide),
    List.forall_mem_cons.mpr ⟨fun h => absurd h (by decide),
    List.forall_mem_cons.mpr ⟨fun h => absurd h (by decide),
    List.forall_mem_cons.mpr ⟨fun h => absurd h (by decide),
    List.forall_mem_cons.mpr ⟨fun h => absurd h (by decide),
    List.forall_mem_cons.mpr ⟨fun h => absurd h (by decide),
    List.forall_mem_cons.mpr ⟨fun h => absurd h (by decide),
    List.forall_mem_cons.mpr ⟨fun h => absurd h (by decide),
    List.forall_mem_cons.mpr ⟨fun h => absurd h (by decide),
    List.forall_mem_cons.mpr ⟨fun h => absurd h (by decide),
    List.forall_mem_cons.mpr ⟨fun h => absurd h (by decide),
    List.forall_mem_cons.mpr ⟨fun h => absurd h (by decide),
    List.forall_mem_cons.mpr ⟨fun h => absurd h (by decide),
    List.forall_mem_cons.mpr ⟨fun h => absurd h (by decide),
    List.forall_mem_cons.mpr ⟨fun h => absurd h (by decide),
    List.forall_mem_cons.mpr ⟨fun h => absurd h (by decide),
    List.forall_mem_cons.mpr ⟨fun h => absurd h (by decide),
    List.forall_mem_cons.mpr ⟨fun h => absurd h (by decide),
    List.forall_mem_cons.mpr ⟨fun h => absurd h (by decide),
    List.forall_mem_cons.mpr ⟨fun h => absurd h (by decide),
    List.forall_mem_cons.mpr ⟨fun h => absurd h (by decide),
    List.forall_mem_cons.mpr ⟨fun h => absurd h (by decide),
    List.forall_mem_cons.mpr ⟨fun h => absurd h (by decide),
    List.forall_mem_cons.mpr ⟨fun h => absurd h (by decide),
    List.forall_mem_cons.mpr ⟨fun h => absurd h (by decide),
    List.forall_mem_cons.mpr ⟨fun h => absurd h (by decide),
    List.forall_mem_cons.mpr ⟨fun h => absurd h (by decide),
    List.forall_mem_cons.mpr ⟨fun h => absurd h (by decide),
    List.forall_mem_cons.mpr ⟨fun h => absurd h (by decide),
    List.forall_mem_cons.mpr ⟨fun h => absurd h (by decide),
    List.forall_mem_cons.mpr ⟨fun h => absurd h (by decide),
    List.forall_mem_cons.mpr ⟨fun h => absurd h (by decide),
    List.forall_mem_cons.mpr ⟨fun h => absurd h (by decide),
    List.forall_mem_cons.mpr ⟨fun h => absurd h (by decide),
    List.forall_mem_cons.mpr ⟨fun h => absurd h (by decide),
    List.forall_mem_cons.mpr ⟨fun h => absurd h (by decide),
    List.forall_mem_cons.mpr ⟨fun h => absurd h (by decide),
    List.forall_mem_cons.mpr ⟨fun h => absurd h (by decide),
    List.forall_mem_cons.mpr ⟨fun h => absurd h (by decide),
    List.forall_mem_cons.mpr ⟨fun h => absurd h (by decide),
    List.forall_mem_cons.mpr ⟨fun h => absurd h (by decide),
    List.forall_mem_cons.mpr ⟨fun h => absurd h (by decide),
    List.forall_mem_cons.mpr ⟨fun h => absurd h (by decide),
    List.forall_mem_cons.mpr ⟨fun h => absurd h (by decide),
    List.forall_mem_cons.mpr ⟨fun h => absurd h (by decide),
    List.forall_mem_cons.mpr ⟨fun h => absurd h (by decide),
    List.forall_mem_cons.mpr ⟨fun h => absurd h (by decide),
    List.forall_mem_cons.mpr ⟨fun h => absurd h (by decide),
    List.forall_mem_cons.mpr ⟨fun h => absurd h (by decide),
    List.forall_mem_cons.mpr ⟨fun h => absurd h (by decide),
    List.forall_mem_cons.mpr ⟨fun h => absurd h (by decide),
    List.forall_mem_cons.mpr ⟨fun h => absurd h (by decide),
    List.forall_mem_cons.mpr ⟨fun h => absurd h (by decide),
    List.forall_mem_cons.mpr ⟨fun h => absurd h (by decide),
    List.forall_mem_cons.mpr ⟨fun h => absurd h (by decide),
    List.forall_mem_cons.mpr ⟨fun h => absurd h (by decide),
    fun _ h => absurd h List.not_mem_nil⟩⟩⟩⟩⟩⟩⟩⟩⟩⟩⟩⟩⟩⟩⟩⟩⟩⟩⟩⟩⟩⟩⟩⟩⟩⟩⟩⟩⟩⟩⟩⟩⟩⟩⟩⟩⟩⟩⟩⟩⟩⟩⟩⟩⟩⟩⟩⟩⟩⟩⟩⟩⟩⟩⟩⟩⟩⟩⟩⟩
theorem ai_ft_strs1 : ∀ e ∈ ai_ftl 1, ai_ncl ≤ e.2.1 → (e.2.2 = 0 ∧ Cond.fieldLink (ai_cn 1) e.1 ai_sN "value" "[B" ∈ lw_all) ∨ (e.2.2 = 1 ∧ Cond.fieldLink (ai_cn 1) e.1 ai_sN "code\x72" "B" ∈ lw_all) := by
  unfold ai_ftl
  exact List.forall_mem_cons.mpr ⟨fun h => absurd h (by decide),
    List.forall_mem_cons.mpr ⟨fun h => absurd h (by decide),
    List.forall_mem_cons.mpr ⟨fun h => absurd h (by decide),
    List.forall_mem_cons.mpr ⟨fun h => absurd h (by decide),
    List.forall_mem_cons.mpr ⟨fun h => absurd h (by decide),
    List.forall_mem_cons.mpr ⟨fun h => absurd h (by decide),
    List.forall_mem_cons.mpr ⟨fun h => absurd h (by decide),
    List.forall_mem_cons.mpr ⟨fun h => absurd h (by decide),
    List.forall_mem_cons.mpr ⟨fun h => absurd h (by decide),
    List.forall_mem_cons.mpr ⟨fun h => absurd h (by decide),
    List.forall_mem_cons.mpr ⟨fun h => absurd h (by decide),
    List.forall_mem_cons.mpr ⟨fun h => absurd h (by decide),
    List.forall_mem_cons.mpr ⟨fun h => absurd h (by decide),
    List.forall_mem_cons.mpr ⟨fun h => absurd h (by decide),
    List.forall_mem_cons.mpr ⟨fun h => absurd h (by decide),
    fun _ h => absurd h List.not_mem_nil⟩⟩⟩⟩⟩⟩⟩⟩⟩⟩⟩⟩⟩⟩⟩
theorem ai_ft_strs2 : ∀ e ∈ ai_ftl 2, ai_ncl ≤ e.2.1 → (e.2.2 = 0 ∧ Cond.fieldLink (ai_cn 2) e.1 ai_sN "value" "[B" ∈ lw_all) ∨ (e.2.2 = 1 ∧ Cond.fieldLink (ai_cn 2) e.1 ai_sN "code\x72" "B" ∈ lw_all) := by
  unfold ai_ftl
  exact List.forall_mem_cons.mpr ⟨fun h => absurd h (by decide),
    List.forall_mem_cons.mpr ⟨fun h => absurd h (by decide),
    List.forall_mem_cons.mpr ⟨fun h => absurd h (by decide),
    List.forall_mem_cons.mpr ⟨fun h => absurd h (by decide),
    List.forall_mem_cons.mpr ⟨fun h => absurd h (by decide),
    List.forall_mem_cons.mpr ⟨fun h => absurd h (by decide),
    List.forall_mem_cons.mpr ⟨fun h => absurd h (by decide),
    List.forall_mem_cons.mpr ⟨fun h => absurd h (by decide),
    List.forall_mem_cons.mpr ⟨fun h => absurd h (by decide),
    List.forall_mem_cons.mpr ⟨fun h => absurd h (by decide),
    List.forall_mem_cons.mpr ⟨fun h => absurd h (by decide),
    List.forall_mem_cons.mpr ⟨fun h => absurd h (by decide),
    List.forall_mem_cons.mpr ⟨fun h => absurd h (by decide),
    List.forall_mem_cons.mpr ⟨fun h => absurd h (by decide),
    List.forall_mem_cons.mpr ⟨fun h => absurd h (by decide),
    List.forall_mem_cons.mpr ⟨fun h => absurd h (by decide),
    fun _ h => absurd h List.not_mem_nil⟩⟩⟩⟩⟩⟩⟩⟩⟩⟩⟩⟩⟩⟩⟩⟩
theorem ai_ft_strs3 : ∀ e ∈ ai_ftl 3, ai_ncl ≤ e.2.1 → (e.2.2 = 0 ∧ Cond.fieldLink (ai_cn 3) e.1 ai_sN "value" "[B" ∈ lw_all) ∨ (e.2.2 = 1 ∧ Cond.fieldLink (ai_cn 3) e.1 ai_sN "code\x72" "B" ∈ lw_all) := by
  unfold ai_ftl
  exact List.forall_mem_cons.mpr ⟨fun h => absurd h (by decide),
    List.forall_mem_cons.mpr ⟨fun h => absurd h (by decide),
    fun _ h => absurd h List.not_mem_nil⟩⟩
theorem ai_ft_strs4 : ∀ e ∈ ai_ftl 4, ai_ncl ≤ e.2.1 → (e.2.2 = 0 ∧ Cond.fieldLink (ai_cn 4) e.1 ai_sN "value" "[B" ∈ lw_all) ∨ (e.2.2 = 1 ∧ Cond.fieldLink (ai_cn 4) e.1 ai_sN "code\x72" "B" ∈ lw_all) := by
  unfold ai_ftl
  exact List.forall_mem_cons.mpr ⟨fun h => absurd h (by decide),
    List.forall_mem_cons.mpr ⟨fun h => absurd h (by decide),
    List.forall_mem_cons.mpr ⟨fun h => absurd h (by decide),
    List.forall_mem_cons.mpr ⟨fun h => absurd h (by decide),
    fun _ h => absurd h List.not_mem_nil⟩⟩⟩⟩
theorem ai_ft_strs5 : ∀ e ∈ ai_ftl 5, ai_ncl ≤ e.2.1 → (e.2.2 = 0 ∧ Cond.fieldLink (ai_cn 5) e.1 ai_sN "value" "[B" ∈ lw_all) ∨ (e.2.2 = 1 ∧ Cond.fieldLink (ai_cn 5) e.1 ai_sN "code\x72" "B" ∈ lw_all) := by
  unfold ai_ftl
  exact List.forall_mem_cons.mpr ⟨fun h => absurd h (by decide),
    List.forall_mem_cons.mpr ⟨fun h => absurd h (by decide),
    List.forall_mem_cons.mpr ⟨fun h => absurd h (by decide),
    fun _ h => absurd h List.not_mem_nil⟩⟩⟩
theorem ai_ft_strs6 : ∀ e ∈ ai_ftl 6, ai_ncl ≤ e.2.1 → (e.2.2 = 0 ∧ Cond.fieldLink (ai_cn 6) e.1 ai_sN "value" "[B" ∈ lw_all) ∨ (e.2.2 = 1 ∧ Cond.fieldLink (ai_cn 6) e.1 ai_sN "code\x72" "B" ∈ lw_all) := by
  unfold ai_ftl
  exact List.forall_mem_cons.mpr ⟨fun h => absurd h (by decide),
    fun _ h => absurd h List.not_mem_nil⟩
theorem ai_ft_strs7 : ∀ e ∈ ai_ftl 7, ai_ncl ≤ e.2.1 → (e.2.2 = 0 ∧ Cond.fieldLink (ai_cn 7) e.1 ai_sN "value" "[B" ∈ lw_all) ∨ (e.2.2 = 1 ∧ Cond.fieldLink (ai_cn 7) e.1 ai_sN "code\x72" "B" ∈ lw_all) := by
  unfold ai_ftl
  exact List.forall_mem_cons.mpr ⟨fun h => absurd h (by decide),
    List.forall_mem_cons.mpr ⟨fun h => absurd h (by decide),
    List.forall_mem_cons.mpr ⟨fun h => absurd h (by decide),
    List.forall_mem_cons.mpr ⟨fun h => absurd h (by decide),
    List.forall_mem_cons.mpr ⟨fun h => absurd h (by decide),
    List.forall_mem_cons.mpr ⟨fun h => absurd h (by decide),
    List.forall_mem_cons.mpr ⟨fun h => absurd h (by decide),
    List.forall_mem_cons.mpr ⟨fun h => absurd h (by decide),
    List.forall_mem_cons.mpr ⟨fun h => absurd h (by decide),
    List.forall_mem_cons.mpr ⟨fun h => absurd h (by decide),
    List.forall_mem_cons.mpr ⟨fun h => absurd h (by decide),
    List.forall_mem_cons.mpr ⟨fun h => absurd h (by decide),
    List.forall_mem_cons.mpr ⟨fun h => absurd h (by decide),
    List.forall_mem_cons.mpr ⟨fun h => absurd h (by decide),
    List.forall_mem_cons.mpr ⟨fun h => absurd h (by decide),
    List.forall_mem_cons.mpr ⟨fun h => absurd h (by decide),
    List.forall_mem_cons.mpr ⟨fun h => absurd h (by decide),
    List.forall_mem_cons.mpr ⟨fun h => absurd h (by decide),
    List.forall_mem_cons.mpr ⟨fun h => absurd h (by decide),
    List.forall_mem_cons.mpr ⟨fun h => absurd h (by decide),
    List.forall_mem_cons.mpr ⟨fun h => absurd h (by decide),
    List.forall_mem_cons.mpr ⟨fun h => absurd h (by decide),
    List.forall_mem_cons.mpr ⟨fun h => absurd h (by decide),
    List.forall_mem_cons.mpr ⟨fun h => absurd h (by decide),
    List.forall_mem_cons.mpr ⟨fun h => absurd h (by decide),
    List.forall_mem_cons.mpr ⟨fun h => absurd h (by decide),
    List.forall_mem_cons.mpr ⟨fun h => absurd h (by decide),
    List.forall_mem_cons.mpr ⟨fun h => absurd h (by decide),
    List.forall_mem_cons.mpr ⟨fun h => absurd h (by decide),
    List.forall_mem_cons.mpr ⟨fun h => absurd h (by decide),
    List.forall_mem_cons.mpr ⟨fun h => absurd h (by decide),
    List.forall_mem_cons.mpr ⟨fun h => absurd h (by decide),
    List.forall_mem_cons.mpr ⟨fun h => absurd h (by decide),
    List.forall_mem_cons.mpr ⟨fun h => absurd h (by decide),
    List.forall_mem_cons.mpr ⟨fun h => absurd h (by decide),
    List.forall_mem_cons.mpr ⟨fun h => absurd h (by decide),
    List.forall_mem_cons.mpr ⟨fun h => absurd h (by decide),
    List.forall_mem_cons.mpr ⟨fun h => absurd h (by decide),
    List.forall_mem_cons.mpr ⟨fun h => absurd h (by decide),
    List.forall_mem_cons.mpr ⟨fun h => absurd h (by decide),
    List.forall_mem_cons.mpr ⟨fun h => absurd h (by decide),
    List.forall_mem_cons.mpr ⟨fun h => absurd h (by decide),
    List.forall_mem_cons.mpr ⟨fun h => absurd h (by decide),
    List.forall_mem_cons.mpr ⟨fun h => absurd h (by decide),
    List.forall_mem_cons.mpr ⟨fun h => absurd h (by decide),
    List.forall_mem_cons.mpr ⟨fun h => absurd h (by decide),
    List.forall_mem_cons.mpr ⟨fun h => absurd h (by decide),
    List.forall_mem_cons.mpr ⟨fun h => absurd h (by decide),
    List.forall_mem_cons.mpr ⟨fun h => absurd h (by decide),
    List.forall_mem_cons.mpr ⟨fun h => absurd h (by decide),
    List.forall_mem_cons.mpr ⟨fun h => absurd h (by decide),
    List.forall_mem_cons.mpr ⟨fun h => absurd h (by decide),
    List.forall_mem_cons.mpr ⟨fun h => absurd h (by decide),
    List.forall_mem_cons.mpr ⟨fun h => absurd h (by decide),
    List.forall_mem_cons.mpr ⟨fun h => absurd h (by decide),
    List.forall_mem_cons.mpr ⟨fun h => absurd h (by decide),
    List.forall_mem_cons.mpr ⟨fun h => absurd h (by decide),
    List.forall_mem_cons.mpr ⟨fun h => absurd h (by decide),
    List.forall_mem_cons.mpr ⟨fun h => absurd h (by decide),
    List.forall_mem_cons.mpr ⟨fun h => absurd h (by decide),
    List.forall_mem_cons.mpr ⟨fun h => absurd h (by decide),
    List.forall_mem_cons.mpr ⟨fun h => absurd h (by decide),
    List.forall_mem_cons.mpr ⟨fun h => absurd h (by decide),
    List.forall_mem_cons.mpr ⟨fun h => absurd h (by decide),
    List.forall_mem_cons.mpr ⟨fun h => absurd h (by decide),
    List.forall_mem_cons.mpr ⟨fun h => absurd h (by decide),
    List.forall_mem_cons.mpr ⟨fun h => absurd h (by decide),
    List.forall_mem_cons.mpr ⟨fun h => absurd h (by decide),
    List.forall_mem_cons.mpr ⟨fun h => absurd h (by decide),
    List.forall_mem_cons.mpr ⟨fun h => absurd h (by decide),
    List.forall_mem_cons.mpr ⟨fun h => absurd h (by decide),
    List.forall_mem_cons.mpr ⟨fun h => absurd h (by decide),
    List.forall_mem_cons.mpr ⟨fun h => absurd h (by decide),
    List.forall_mem_cons.mpr ⟨fun h => absurd h (by decide),
    List.forall_mem_cons.mpr ⟨fun h => absurd h (by decide),
    List.forall_mem_cons.mpr ⟨fun h => absurd h (by decide),
    List.forall_mem_cons.mpr ⟨fun h => absurd h (by decide),
    List.forall_mem_cons.mpr ⟨fun h => absurd h (by decide),
    List.forall_mem_cons.mpr ⟨fun h => absurd h (by decide),
    List.forall_mem_cons.mpr ⟨fun h => absurd h (by decide),
    List.forall_mem_cons.mpr ⟨fun h => absurd h (by decide),
    List.forall_mem_cons.mpr ⟨fun h => absurd h (by decide),
    fun _ h => absurd h List.not_mem_nil⟩⟩⟩⟩⟩⟩⟩⟩⟩⟩⟩⟩⟩⟩⟩⟩⟩⟩⟩⟩⟩⟩⟩⟩⟩⟩⟩⟩⟩⟩⟩⟩⟩⟩⟩⟩⟩⟩⟩⟩⟩⟩⟩⟩⟩⟩⟩⟩⟩⟩⟩⟩⟩⟩⟩⟩⟩⟩⟩⟩⟩⟩⟩⟩⟩⟩⟩⟩⟩⟩⟩⟩⟩⟩⟩⟩⟩⟩⟩⟩⟩⟩
theorem ai_ft_strs8 : ∀ e ∈ ai_ftl 8, ai_ncl ≤ e.2.1 → (e.2.2 = 0 ∧ Cond.fieldLink (ai_cn 8) e.1 ai_sN "value" "[B" ∈ lw_all) ∨ (e.2.2 = 1 ∧ Cond.fieldLink (ai_cn 8) e.1 ai_sN "code\x72" "B" ∈ lw_all) := by
  unfold ai_ftl
  exact List.forall_mem_cons.mpr ⟨fun h => absurd h (by decide),
    List.forall_mem_cons.mpr ⟨fun h => absurd h (by decide),
    List.forall_mem_cons.mpr ⟨fun h => absurd h (by decide),
    List.forall_mem_cons.mpr ⟨fun h => absurd h (by decide),
    List.forall_mem_cons.mpr ⟨fun h => absurd h (by decide),
    List.forall_mem_cons.mpr ⟨fun h => absurd h (by decide),
    List.forall_mem_cons.mpr ⟨fun h => absurd h (by decide),
    List.forall_mem_cons.mpr ⟨fun h => absurd h (by decide),
    List.forall_mem_cons.mpr ⟨fun h => absurd h (by decide),
    List.forall_mem_cons.mpr ⟨fun h => absurd h (by decide),
    List.forall_mem_cons.mpr ⟨fun h => absurd h (by decide),
    List.forall_mem_cons.mpr ⟨fun h => absurd h (by decide),
    List.forall_mem_cons.mpr ⟨fun h => absurd h (by decide),
    List.forall_mem_cons.mpr ⟨fun h => absurd h (by decide),
    List.forall_mem_cons.mpr ⟨fun h => absurd h (by decide),
    List.forall_mem_cons.mpr ⟨fun h => absurd h (by decide),
    List.forall_mem_cons.mpr ⟨fun h => absurd h (by decide),
    List.forall_mem_cons.mpr ⟨fun h => absurd h (by decide),
    List.forall_mem_cons.mpr ⟨fun h => absurd h (by decide),
    List.forall_mem_cons.mpr ⟨fun h => absurd h (by decide),
    List.forall_mem_cons.mpr ⟨fun h => absurd h (by decide),
    List.forall_mem_cons.mpr ⟨fun h => absurd h (by decide),
    List.forall_mem_cons.mpr ⟨fun h => absurd h (by decide),
    List.forall_mem_cons.mpr ⟨fun h => absurd h (by decide),
    List.forall_mem_cons.mpr ⟨fun h => absurd h (by decide),
    List.forall_mem_cons.mpr ⟨fun h => absurd h (by decide),
    List.forall_mem_cons.mpr ⟨fun h => absurd h (by decide),
    List.forall_mem_cons.mpr ⟨fun h => absurd h (by decide),
    List.forall_mem_cons.mpr ⟨fun h => absurd h (by decide),
    List.forall_mem_cons.mpr ⟨fun h => absurd h (by decide),
    List.forall_mem_cons.mpr ⟨fun h => absurd h (by decide),
    List.forall_mem_cons.mpr ⟨fun h => absurd h (by decide),
    List.forall_mem_cons.mpr ⟨fun h => absurd h (by decide),
    fun _ h => absurd h List.not_mem_nil⟩⟩⟩⟩⟩⟩⟩⟩⟩⟩⟩⟩⟩⟩⟩⟩⟩⟩⟩⟩⟩⟩⟩⟩⟩⟩⟩⟩⟩⟩⟩⟩⟩
theorem ai_ft_strs9 : ∀ e ∈ ai_ftl 9, ai_ncl ≤ e.2.1 → (e.2.2 = 0 ∧ Cond.fieldLink (ai_cn 9) e.1 ai_sN "value" "[B" ∈ lw_all) ∨ (e.2.2 = 1 ∧ Cond.fieldLink (ai_cn 9) e.1 ai_sN "code\x72" "B" ∈ lw_all) := by
  unfold ai_ftl
  exact List.forall_mem_cons.mpr ⟨fun h => absurd h (by decide),
    fun _ h => absurd h List.not_mem_nil⟩
theorem ai_ft_strs11 : ∀ e ∈ ai_ftl 11, ai_ncl ≤ e.2.1 → (e.2.2 = 0 ∧ Cond.fieldLink (ai_cn 11) e.1 ai_sN "value" "[B" ∈ lw_all) ∨ (e.2.2 = 1 ∧ Cond.fieldLink (ai_cn 11) e.1 ai_sN "code\x72" "B" ∈ lw_all) := by
  unfold ai_ftl
  exact List.forall_mem_cons.mpr ⟨fun h => absurd h (by decide),
    fun _ h => absurd h List.not_mem_nil⟩
theorem ai_ft_strs12 : ∀ e ∈ ai_ftl 12, ai_ncl ≤ e.2.1 → (e.2.2 = 0 ∧ Cond.fieldLink (ai_cn 12) e.1 ai_sN "value" "[B" ∈ lw_all) ∨ (e.2.2 = 1 ∧ Cond.fieldLink (ai_cn 12) e.1 ai_sN "code\x72" "B" ∈ lw_all) := by
  unfold ai_ftl
  exact List.forall_mem_cons.mpr ⟨fun h => absurd h (by decide),
    fun _ h => absurd h List.not_mem_nil⟩
theorem ai_ft_strs13 : ∀ e ∈ ai_ftl 13, ai_ncl ≤ e.2.1 → (e.2.2 = 0 ∧ Cond.fieldLink (ai_cn 13) e.1 ai_sN "value" "[B" ∈ lw_all) ∨ (e.2.2 = 1 ∧ Cond.fieldLink (ai_cn 13) e.1 ai_sN "code\x72" "B" ∈ lw_all) := by
  unfold ai_ftl
  exact List.forall_mem_cons.mpr ⟨fun h => absurd h (by decide),
    fun _ h => absurd h List.not_mem_nil⟩
theorem ai_ft_strs14 : ∀ e ∈ ai_ftl 14, ai_ncl ≤ e.2.1 → (e.2.2 = 0 ∧ Cond.fieldLink (ai_cn 14) e.1 ai_sN "value" "[B" ∈ lw_all) ∨ (e.2.2 = 1 ∧ Cond.fieldLink (ai_cn 14) e.1 ai_sN "code\x72" "B" ∈ lw_all) := by
  unfold ai_ftl
  exact List.forall_mem_cons.mpr ⟨fun h => absurd h (by decide),
    List.forall_mem_cons.mpr ⟨fun h => absurd h (by decide),
    List.forall_mem_cons.mpr ⟨fun h => absurd h (by decide),
    fun _ h => absurd h List.not_mem_nil⟩⟩⟩
theorem ai_ft_strs15 : ∀ e ∈ ai_ftl 15, ai_ncl ≤ e.2.1 → (e.2.2 = 0 ∧ Cond.fieldLink (ai_cn 15) e.1 ai_sN "value" "[B" ∈ lw_all) ∨ (e.2.2 = 1 ∧ Cond.fieldLink (ai_cn 15) e.1 ai_sN "code\x72" "B" ∈ lw_all) := by
  unfold ai_ftl
  exact List.forall_mem_cons.mpr ⟨fun h => absurd h (by decide),
    List.forall_mem_cons.mpr ⟨fun h => absurd h (by decide),
    List.forall_mem_cons.mpr ⟨fun h => absurd h (by decide),
    List.forall_mem_cons.mpr ⟨fun h => absurd h (by decide),
    List.forall_mem_cons.mpr ⟨fun h => absurd h (by decide),
    List.forall_mem_cons.mpr ⟨fun h => absurd h (by decide),
    fun _ h => absurd h List.not_mem_nil⟩⟩⟩⟩⟩⟩
theorem ai_ft_strs16 : ∀ e ∈ ai_ftl 16, ai_ncl ≤ e.2.1 → (e.2.2 = 0 ∧ Cond.fieldLink (ai_cn 16) e.1 ai_sN "value" "[B" ∈ lw_all) ∨ (e.2.2 = 1 ∧ Cond.fieldLink (ai_cn 16) e.1 ai_sN "code\x72" "B" ∈ lw_all) := by
  unfold ai_ftl
  exact List.forall_mem_cons.mpr ⟨fun h => absurd h (by decide),
    List.forall_mem_cons.mpr ⟨fun h => absurd h (by decide),
    List.forall_mem_cons.mpr ⟨fun h => absurd h (by decide),
    fun _ h => absurd h List.not_mem_nil⟩⟩⟩
theorem ai_ft_strs17 : ∀ e ∈ ai_ftl 17, ai_ncl ≤ e.2.1 → (e.2.2 = 0 ∧ Cond.fieldLink (ai_cn 17) e.1 ai_sN "value" "[B" ∈ lw_all) ∨ (e.2.2 = 1 ∧ Cond.fieldLink (ai_cn 17) e.1 ai_sN "code\x72" "B" ∈ lw_all) := by
  unfold ai_ftl
  exact List.forall_mem_cons.mpr ⟨fun h => absurd h (by decide),
    List.forall_mem_cons.mpr ⟨fun h => absurd h (by decide),
    List.forall_mem_cons.mpr ⟨fun h => absurd h (by decide),
    List.forall_mem_cons.mpr ⟨fun h => absurd h (by decide),
    List.forall_mem_cons.mpr ⟨fun h => absurd h (by decide),
    List.forall_mem_cons.mpr ⟨fun h => absurd h (by decide),
    List.forall_mem_cons.mpr ⟨fun h => absurd h (by decide),
    fun _ h => absurd h List.not_mem_nil⟩⟩⟩⟩⟩⟩⟩
theorem ai_ft_strs18 : ∀ e ∈ ai_ftl 18, ai_ncl ≤ e.2.1 → (e.2.2 = 0 ∧ Cond.fieldLink (ai_cn 18) e.1 ai_sN "value" "[B" ∈ lw_all) ∨ (e.2.2 = 1 ∧ Cond.fieldLink (ai_cn 18) e.1 ai_sN "code\x72" "B" ∈ lw_all) := by
  unfold ai_ftl
  exact List.forall_mem_cons.mpr ⟨fun _ => Or.inl ⟨rfl, q2269⟩,
    List.forall_mem_cons.mpr ⟨fun _ => Or.inr ⟨rfl, q2270⟩,
    fun _ h => absurd h List.not_mem_nil⟩⟩
theorem ai_ft_strs19 : ∀ e ∈ ai_ftl 19, ai_ncl ≤ e.2.1 → (e.2.2 = 0 ∧ Cond.fieldLink (ai_cn 19) e.1 ai_sN "value" "[B" ∈ lw_all) ∨ (e.2.2 = 1 ∧ Cond.fieldLink (ai_cn 19) e.1 ai_sN "code\x72" "B" ∈ lw_all) := by
  unfold ai_ftl
  exact List.forall_mem_cons.mpr ⟨fun h => absurd h (by decide),
    List.forall_mem_cons.mpr ⟨fun h => absurd h (by decide),
    List.forall_mem_cons.mpr ⟨fun h => absurd h (by decide),
    List.forall_mem_cons.mpr ⟨fun h => absurd h (by decide),
    List.forall_mem_cons.mpr ⟨fun h => absurd h (by decide),
    List.forall_mem_cons.mpr ⟨fun h => absurd h (by decide),
    List.forall_mem_cons.mpr ⟨fun h => absurd h (by decide),
    List.forall_mem_cons.mpr ⟨fun h => absurd h (by decide),
    List.forall_mem_cons.mpr ⟨fun h => absurd h (by decide),
    List.forall_mem_cons.mpr ⟨fun h => absurd h (by decide),
    List.forall_mem_cons.mpr ⟨fun h => absurd h (by decide),
    List.forall_mem_cons.mpr ⟨fun h => absurd h (by decide),
    List.forall_mem_cons.mpr ⟨fun h => absurd h (by decide),
    fun _ h => absurd h List.not_mem_nil⟩⟩⟩⟩⟩⟩⟩⟩⟩⟩⟩⟩⟩
theorem ai_ft_strs20 : ∀ e ∈ ai_ftl 20, ai_ncl ≤ e.2.1 → (e.2.2 = 0 ∧ Cond.fieldLink (ai_cn 20) e.1 ai_sN "value" "[B" ∈ lw_all) ∨ (e.2.2 = 1 ∧ Cond.fieldLink (ai_cn 20) e.1 ai_sN "code\x72" "B" ∈ lw_all) := by
  unfold ai_ftl
  exact List.forall_mem_cons.mpr ⟨fun h => absurd h (by decide),
    List.forall_mem_cons.mpr ⟨fun h => absurd h (by decide),
    fun _ h => absurd h List.not_mem_nil⟩⟩
theorem ai_ft_strs23 : ∀ e ∈ ai_ftl 23, ai_ncl ≤ e.2.1 → (e.2.2 = 0 ∧ Cond.fieldLink (ai_cn 23) e.1 ai_sN "value" "[B" ∈ lw_all) ∨ (e.2.2 = 1 ∧ Cond.fieldLink (ai_cn 23) e.1 ai_sN "code\x72" "B" ∈ lw_all) := by
  unfold ai_ftl
  exact List.forall_mem_cons.mpr ⟨fun h => absurd h (by decide),
    fun _ h => absurd h List.not_mem_nil⟩
theorem ai_ft_strs : ∀ o, ∀ e ∈ ai_ftl o, ai_ncl ≤ e.2.1 → (e.2.2 = 0 ∧ Cond.fieldLink (ai_cn o) e.1 ai_sN "value" "[B" ∈ lw_all) ∨ (e.2.2 = 1 ∧ Cond.fieldLink (ai_cn o) e.1 ai_sN "code\x72" "B" ∈ lw_all) := by
  intro o
  match o with
  | 0 => exact ai_ft_strs0
  | 1 => exact ai_ft_strs1
  | 2 => exact ai_ft_strs2
  | 3 => exact ai_ft_strs3
  | 4 => exact ai_ft_strs4
  | 5 => exact ai_ft_strs5
  | 6 => exact ai_ft_strs6
  | 7 => exact ai_ft_strs7
  | 8 => exact ai_ft_strs8
  | 9 => exact ai_ft_strs9
  | 10 => exact fun e h => absurd h (by unfold ai_ftl; exact List.not_mem_nil)
  | 11 => exact ai_ft_strs11
  | 12 => exact ai_ft_strs12
  | 13 => exact ai_ft_strs13
  | 14 => exact ai_ft_strs14
  | 15 => exact ai_ft_strs15
  | 16 => exact ai_ft_strs16
  | 17 => exact ai_ft_strs17
  | 18 => exact ai_ft_strs18
  | 19 => exact ai_ft_strs19
  | 20 => exact ai_ft_strs20
  | 21 => exact fun e h => absurd h (by unfold ai_ftl; exact List.not_mem_nil)
  | 22 => exact fun e h => absurd h (by unfold ai_ftl; exact List.not_mem_nil)
  | 23 => exact ai_ft_strs23
  | o + 24 => exact fun e h => absurd h (by unfold ai_ftl; exact List.not_mem_nil)

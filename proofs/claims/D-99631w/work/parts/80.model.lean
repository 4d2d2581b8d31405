/-! LAYER 2: the model: its object at M, its arrays behind it in the constructor's order (printed by tools/mk80.py) -/
set_option maxRecDepth 100000
/-- the model's state: ints and booleans by field number, the word, arrays by offset, the names -/
abbrev mS : Type := (Nat → Int32) × Int64 × (Nat → Nat → Int32) × (Nat → Int64)
def m_ofs : List Nat := [1, 0, 0, 0, 0, 0, 0, 0, 0, 0, 2, 3, 4, 5, 6, 7, 8, 0, 0, 0, 0, 0, 0, 0, 0, 9, 10, 11, 12, 13, 14, 15, 16, 17, 18, 19, 20, 21, 0, 0, 0, 0, 0, 0, 0, 0, 0, 0, 0, 0, 0, 0, 0, 0, 22, 23, 24, 0, 0, 25, 26, 0, 27, 28, 29, 30, 31, 32, 33, 34, 35, 36, 37, 38, 39, 0, 0, 40, 41, 42, 43, 44]
def m_off (k : Nat) : Nat := m_ofs.getD k 0
def m_lns : List Nat := [0, 1600, 11, 320, 320, 320, 320, 160, 64, 6, 56, 56, 4, 4, 4, 7, 56, 56, 4, 4, 4, 7, 28, 28, 1120, 6, 7, 7, 8, 8, 64, 64, 4, 4, 30, 30, 30, 30, 30, 30, 6, 6, 18, 3, 84]
def m_ln (j : Nat) : Nat := m_lns.getD j 0
def m_kns : List Nat := [0, 0, 3, 0, 0, 0, 0, 0, 0, 0, 0, 0, 0, 0, 0, 0, 0, 0, 0, 0, 0, 0, 0, 0, 0, 0, 0, 0, 0, 0, 1, 1, 0, 0, 0, 0, 0, 0, 0, 1, 0, 0, 0, 1, 0]
def m_kn (j : Nat) : Nat := m_kns.getD j 0
abbrev ma_tape : Nat := 1
abbrev ms_taped : Nat := 1
abbrev ms_fault : Nat := 2
abbrev ms_faultPlace : Nat := 3
abbrev ms_at : Nat := 4
abbrev ms_size : Nat := 5
abbrev ms_sort : Nat := 6
abbrev ms_place : Nat := 7
abbrev ms_number : Nat := 8
abbrev ms_word : Nat := 9
abbrev ma_nName : Nat := 2
abbrev ma_nStep : Nat := 3
abbrev ma_nArg : Nat := 4
abbrev ma_step : Nat := 5
abbrev ma_arg : Nat := 6
abbrev ma_open : Nat := 7
abbrev ma_values : Nat := 8
abbrev ms_nMany : Nat := 17
abbrev ms_steps : Nat := 18
abbrev ms_opens : Nat := 19
abbrev ms_nUnits : Nat := 20
abbrev ms_units : Nat := 21
abbrev ms_ownUnits : Nat := 22
abbrev ms_deep : Nat := 23
abbrev ms_nHasForm : Nat := 24
abbrev ma_asks : Nat := 9
abbrev ma_nCurrent : Nat := 10
abbrev ma_nIron : Nat := 11
abbrev ma_nBoardWide : Nat := 12
abbrev ma_nBoardAt : Nat := 13
abbrev ma_nBears : Nat := 14
abbrev ma_nLoadWide : Nat := 15
abbrev ma_current : Nat := 16
abbrev ma_iron : Nat := 17
abbrev ma_boardWide : Nat := 18
abbrev ma_boardAt : Nat := 19
abbrev ma_bears : Nat := 20
abbrev ma_loadWide : Nat := 21
abbrev ms_nColumns : Nat := 38
abbrev ms_nRows : Nat := 39
abbrev ms_nCurrents : Nat := 40
abbrev ms_nIrons : Nat := 41
abbrev ms_nBoards : Nat := 42
abbrev ms_nLoads : Nat := 43
abbrev ms_nFlood : Nat := 44
abbrev ms_nDraw : Nat := 45
abbrev ms_columns : Nat := 46
abbrev ms_rows : Nat := 47
abbrev ms_boards : Nat := 48
abbrev ms_loads : Nat := 49
abbrev ms_flood : Nat := 50
abbrev ms_nHasLine : Nat := 51
abbrev ms_nHasFlood : Nat := 52
abbrev ms_nHasDraw : Nat := 53
abbrev ma_now : Nat := 22
abbrev ma_air : Nat := 23
abbrev ma_were : Nat := 24
abbrev ms_acts : Nat := 57
abbrev ms_undone : Nat := 58
abbrev ma_steers : Nat := 25
abbrev ma_lies : Nat := 26
abbrev ms_lain : Nat := 61
abbrev ma_trip : Nat := 27
abbrev ma_before : Nat := 28
abbrev ma_wides : Nat := 29
abbrev ma_can : Nat := 30
abbrev ma_then : Nat := 31
abbrev ma_lands : Nat := 32
abbrev ma_moor : Nat := 33
abbrev ma_sightSort : Nat := 34
abbrev ma_sightStrokes : Nat := 35
abbrev ma_sightOf : Nat := 36
abbrev ma_sightTold : Nat := 37
abbrev ma_sightUntold : Nat := 38
abbrev ma_sightIs : Nat := 39
abbrev ms_sights : Nat := 75
abbrev ms_time : Nat := 76
abbrev ma_wasColumn : Nat := 40
abbrev ma_wasHeat : Nat := 41
abbrev ma_tally : Nat := 42
abbrev ma_hasBox : Nat := 43
abbrev ma_boxes : Nat := 44
/-- contents below a length, zero above -/
def cz (n : Nat) (f : Nat → Int32) : Nat → Int32 := fun k => if k < n then f k else 0
def czJ (n : Nat) (f : Nat → Int64) : Nat → Int64 := fun k => if k < n then f k else 0
theorem cz_at {n k : Nat} {f : Nat → Int32} (h : k < n) : cz n f k = f k := if_pos h
theorem czJ_at {n k : Nat} {f : Nat → Int64} (h : k < n) : czJ n f k = f k := if_pos h
theorem cz_eq {n : Nat} {f g : Nat → Int32} (h : ∀ k, k < n → f k = g k) : cz n f = cz n g := by
  funext k
  unfold cz
  by_cases hk : k < n
  · rw [if_pos hk, if_pos hk, h k hk]
  · rw [if_neg hk, if_neg hk]
theorem cz_upd {n i : Nat} {f : Nat → Int32} {v : Int32} (h : i < n) : upd (cz n f) i v = cz n (upd f i v) := by
  funext k
  simp only [cz, upd]
  by_cases hk : k = i
  · subst hk; rw [if_pos rfl, if_pos h, if_pos rfl]
  · simp only [if_neg hk]
theorem czJ_upd {n i : Nat} {f : Nat → Int64} {v : Int64} (h : i < n) : vp_updL (czJ n f) i v = czJ n (vp_updL f i v) := by
  funext k
  simp only [czJ, vp_updL]
  by_cases hk : k = i
  · subst hk; rw [if_pos rfl, if_pos h, if_pos rfl]
  · simp only [if_neg hk]
def mF (M : Nat) (σ : mS) : Nat → Value := fun k => if 82 ≤ k then defaultValue (ai_ty 7 k) else if m_off k = 0 then (if k = 9 then .long σ.2.1 else .int (σ.1 k)) else .ref (M + m_off k)
def mA (σ : mS) (j : Nat) : ai_C := if j = 2 then .inl (3, 11, .inr (.inl (czJ 11 σ.2.2.2))) else .inl (m_kn j, m_ln j, .inl (cz (m_ln j) (σ.2.2.1 j)))
def mH (M : Nat) (σ : mS) (h0 : ai_H) : ai_H := (fun a => if a = M then some (.inr (7, mF M σ)) else if M < a ∧ a < M + 45 then some (mA σ (a - M)) else h0.1 a, h0.2)
def mSi (σ : mS) (k : Nat) (v : Int32) : mS := (upd σ.1 k v, σ.2)
def mSw (σ : mS) (v : Int64) : mS := (σ.1, v, σ.2.2)
def mSa (σ : mS) (j : Nat) (f : Nat → Int32) : mS := (σ.1, σ.2.1, va_up σ.2.2.1 j f, σ.2.2.2)
def mSn (σ : mS) (f : Nat → Int64) : mS := (σ.1, σ.2.1, σ.2.2.1, f)

section MH
variable {M : Nat} {σ : mS} {h0 : ai_H}
theorem mH_o : (mH M σ h0).1 M = some (.inr (7, mF M σ)) := if_pos rfl
theorem mH_a {j : Nat} (h1 : 0 < j) (h2 : j < 45) (h3 : ¬ j = 2) : (mH M σ h0).1 (M + j) = some (.inl (m_kn j, m_ln j, .inl (cz (m_ln j) (σ.2.2.1 j)))) := by
  unfold mH mA
  simp only
  rw [if_neg (by omega), if_pos (by omega), Nat.add_sub_cancel_left, if_neg h3]
theorem mH_n : (mH M σ h0).1 (M + 2) = some (.inl (3, 11, .inr (.inl (czJ 11 σ.2.2.2)))) := by
  unfold mH mA
  simp only
  rw [if_neg (by omega), if_pos (by omega), Nat.add_sub_cancel_left, if_pos rfl]
theorem mH_si {k : Nat} {v : Int32} (h1 : k < 82) (h2 : m_off k = 0) (h3 : ¬ k = 9) : ai_set (mH M σ h0) M (.inr (7, va_up (mF M σ) k (.int v))) = mH M (mSi σ k v) h0 := by
  have e : va_up (mF M σ) k (.int v) = mF M (mSi σ k v) := by
    funext j
    unfold va_up mF mSi upd
    by_cases hj : j = k
    · subst hj; rw [if_pos rfl, if_neg (by omega), if_pos h2, if_neg h3]; simp
    · rw [if_neg hj]; simp only [if_neg hj]
  unfold ai_set mH
  rw [e]
  refine Prod.ext ?_ rfl
  funext a
  by_cases ha : a = M
  · simp only [va_up, if_pos ha]
  · simp only [va_up, if_neg ha]; rfl
theorem mH_sw {v : Int64} : ai_set (mH M σ h0) M (.inr (7, va_up (mF M σ) 9 (.long v))) = mH M (mSw σ v) h0 := by
  have e : va_up (mF M σ) 9 (.long v) = mF M (mSw σ v) := by
    funext j
    unfold va_up mF mSw
    by_cases hj : j = 9
    · subst hj; rfl
    · rw [if_neg hj]; simp only [if_neg hj]
  unfold ai_set mH
  rw [e]
  refine Prod.ext ?_ rfl
  funext a
  by_cases ha : a = M
  · simp only [va_up, if_pos ha]
  · simp only [va_up, if_neg ha]; rfl
theorem mH_sa {j : Nat} {f : Nat → Int32} (h1 : 0 < j) (h2 : j < 45) (h3 : ¬ j = 2) : ai_set (mH M σ h0) (M + j) (.inl (m_kn j, m_ln j, .inl (cz (m_ln j) f))) = mH M (mSa σ j f) h0 := by
  unfold ai_set mH
  refine Prod.ext ?_ rfl
  funext a
  simp only [va_up]
  by_cases ha : a = M + j
  · subst ha
    rw [if_pos rfl, if_neg (by omega), if_pos (by omega), Nat.add_sub_cancel_left]
    unfold mA mSa
    rw [if_neg h3]
    simp only [va_up, if_true]
  · rw [if_neg ha]
    by_cases hb : a = M
    · rw [if_pos hb, if_pos hb]; rfl
    · rw [if_neg hb, if_neg hb]
      by_cases hc : M < a ∧ a < M + 45
      · rw [if_pos hc, if_pos hc]
        unfold mA mSa
        have : ¬ a - M = j := by omega
        simp only [va_up, if_neg this]
      · rw [if_neg hc, if_neg hc]
theorem mH_sn {f : Nat → Int64} : ai_set (mH M σ h0) (M + 2) (.inl (3, 11, .inr (.inl (czJ 11 f)))) = mH M (mSn σ f) h0 := by
  unfold ai_set mH
  refine Prod.ext ?_ rfl
  funext a
  simp only [va_up]
  by_cases ha : a = M + 2
  · subst ha
    rw [if_pos rfl, if_neg (by omega), if_pos (by omega), Nat.add_sub_cancel_left]
    rfl
  · rw [if_neg ha]
    by_cases hb : a = M
    · rw [if_pos hb, if_pos hb]; rfl
    · rw [if_neg hb, if_neg hb]
      by_cases hc : M < a ∧ a < M + 45
      · rw [if_pos hc, if_pos hc]
        unfold mA mSn
        have : ¬ a - M = 2 := by omega
        rw [if_neg this, if_neg this]
      · rw [if_neg hc, if_neg hc]
variable {G : ai_G} {d k pc : Nat} {L : ai_L} {st : List Value} {Q : Option Value ⊕ Nat → ai_H → Prop}
/-- rows over the model's heap: an int is read, an array's reference, the word; written -/
theorem m_gi {i k9 : Nat} {v : Int32} (hd : decode (ai_mC k) pc = .ok (.getfield i, 3)) (hf : ai_fT (ai_mO k) i 7 = some k9) (hv : mF M σ k9 = .int v) (kk : ok G d k (pc + 3) L (.int v :: st) (mH M σ h0) Q) : ok G d k pc L (.ref M :: st) (mH M σ h0) Q := k_getf hd mH_o hf hv kk
theorem m_ga {i k9 j : Nat} (hd : decode (ai_mC k) pc = .ok (.getfield i, 3)) (hf : ai_fT (ai_mO k) i 7 = some k9) (hv : mF M σ k9 = .ref (M + j)) (kk : ok G d k (pc + 3) L (.ref (M + j) :: st) (mH M σ h0) Q) : ok G d k pc L (.ref M :: st) (mH M σ h0) Q := k_getf hd mH_o hf hv kk
theorem m_gw {i k9 : Nat} {v : Int64} (hd : decode (ai_mC k) pc = .ok (.getfield i, 3)) (hf : ai_fT (ai_mO k) i 7 = some k9) (hv : mF M σ k9 = .long v) (kk : ok G d k (pc + 3) L (.long v :: st) (mH M σ h0) Q) : ok G d k pc L (.ref M :: st) (mH M σ h0) Q := k_getf hd mH_o hf hv kk
theorem m_pi {i k9 : Nat} {v : Int32} (hd : decode (ai_mC k) pc = .ok (.putfield i, 3)) (hf : ai_fT (ai_mO k) i 7 = some k9) (h1 : (decide (k9 < 82) && decide (m_off k9 = 0) && decide (¬ k9 = 9) && decide (ai_ty 7 k9 = .int) && !(ai_fin 7 k9)) = true) (kk : ok G d k (pc + 3) L st (mH M (mSi σ k9 v) h0) Q) : ok G d k pc L (.int v :: .ref M :: st) (mH M σ h0) Q := by
  simp only [Bool.and_eq_true, decide_eq_true_eq] at h1
  obtain ⟨⟨⟨⟨a1, a2⟩, a3⟩, a4⟩, a5⟩ := h1
  exact k_putf hd mH_o hf (by rw [a4]; rfl) (by rw [a5]; rfl) (mH_si a1 a2 a3) kk
/-- a boolean is written -/
theorem m_pb {i k9 : Nat} {v : Int32} (hd : decode (ai_mC k) pc = .ok (.putfield i, 3)) (hf : ai_fT (ai_mO k) i 7 = some k9) (h1 : (decide (k9 < 82) && decide (m_off k9 = 0) && decide (¬ k9 = 9) && decide (ai_ty 7 k9 = .boolean) && !(ai_fin 7 k9)) = true) (hv : v = 0 ∨ v = 1) (kk : ok G d k (pc + 3) L st (mH M (mSi σ k9 v) h0) Q) : ok G d k pc L (.int v :: .ref M :: st) (mH M σ h0) Q := by
  simp only [Bool.and_eq_true, decide_eq_true_eq] at h1
  obtain ⟨⟨⟨⟨a1, a2⟩, a3⟩, a4⟩, a5⟩ := h1
  exact k_putf hd mH_o hf (by rw [a4]; simp [ai_fit, hv]) (by rw [a5]; rfl) (mH_si a1 a2 a3) kk
theorem m_pw {i : Nat} {v : Int64} (hd : decode (ai_mC k) pc = .ok (.putfield i, 3)) (hf : ai_fT (ai_mO k) i 7 = some 9) (kk : ok G d k (pc + 3) L st (mH M (mSw σ v) h0) Q) : ok G d k pc L (.long v :: .ref M :: st) (mH M σ h0) Q :=
  k_putf hd mH_o hf rfl rfl mH_sw kk
theorem m_inb {i : Int32} {n N : Nat} (hi : i = nI n) (hn : n < N) (hN : N ≤ 65536) : ai_inb i N = true ∧ i.toNatClampNeg = n := by
  subst hi
  refine ⟨?_, nI_clamp (by omega)⟩
  unfold ai_inb
  exact decide_eq_true (nI_in hn (by omega))
theorem m_ild {j n : Nat} {i v : Int32} (hd : decode (ai_mC k) pc = .ok (.iaload, 1)) (hj : (decide (0 < j) && decide (j < 45) && decide (¬ j = 2) && decide (m_kn j = 0) && decide (m_ln j ≤ 65536)) = true) (hi : i = nI n) (hn : n < m_ln j) (hv : σ.2.2.1 j n = v) (kk : ok G d k (pc + 1) L (.int v :: st) (mH M σ h0) Q) : ok G d k pc L (.int i :: .ref (M + j) :: st) (mH M σ h0) Q := by
  simp only [Bool.and_eq_true, decide_eq_true_eq] at hj
  obtain ⟨⟨⟨⟨a1, a2⟩, a3⟩, a4⟩, a5⟩ := hj
  obtain ⟨b1, b2⟩ := m_inb hi hn a5
  have := mH_a (M := M) (σ := σ) (h0 := h0) a1 a2 a3
  rw [a4] at this
  exact k_iald hd (rd_new this) b1 (by rw [b2, cz_at hn, hv]) kk
theorem m_ist {j n : Nat} {i v : Int32} (hd : decode (ai_mC k) pc = .ok (.iastore, 1)) (hj : (decide (0 < j) && decide (j < 45) && decide (¬ j = 2) && decide (m_kn j = 0) && decide (m_ln j ≤ 65536)) = true) (hi : i = nI n) (hn : n < m_ln j) (kk : ok G d k (pc + 1) L st (mH M (mSa σ j (upd (σ.2.2.1 j) n v)) h0) Q) : ok G d k pc L (.int v :: .int i :: .ref (M + j) :: st) (mH M σ h0) Q := by
  simp only [Bool.and_eq_true, decide_eq_true_eq] at hj
  obtain ⟨⟨⟨⟨a1, a2⟩, a3⟩, a4⟩, a5⟩ := hj
  obtain ⟨b1, b2⟩ := m_inb hi hn a5
  have := mH_a (M := M) (σ := σ) (h0 := h0) a1 a2 a3
  have e := mH_sa (M := M) (σ := σ) (h0 := h0) (f := upd (σ.2.2.1 j) n v) a1 a2 a3
  rw [a4] at this e
  exact k_iast hd this b1 (by rw [b2, cz_upd hn]; exact e) kk
end MH

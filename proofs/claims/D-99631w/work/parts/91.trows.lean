/-! LAYER 2: rows of the model over Tj (printed by tools/decm.py) -/
set_option maxRecDepth 100000
theorem inb_lt {i : Int32} {n : Nat} (h : ai_inb i n = true) : i.toNatClampNeg < n := by
  unfold ai_inb at h
  have := of_decide_eq_true h
  omega
theorem tsw_d {dft lo hi : Int} {offs : Array Int} {x : Int32} {ks : List Int32} (hk : (List.range (hi - lo + 1).toNat).all (fun n => ks.any (fun k => k.toInt == lo + n)) = true) (hx : ∀ k ∈ ks, ¬ x = k) : ai_tsw dft lo hi offs x.toInt = some dft := by
  unfold ai_tsw
  rw [if_pos]
  apply Classical.byContradiction
  intro hn
  have h1 : lo ≤ x.toInt ∧ x.toInt ≤ hi := by omega
  have h2 := List.all_eq_true.mp hk (x.toInt - lo).toNat (by rw [List.mem_range]; omega)
  obtain ⟨k, hk1, hk2⟩ := List.any_eq_true.mp h2
  have h3 : k.toInt = x.toInt := by
    have := eq_of_beq hk2
    omega
  exact hx k hk1 (Int32.toInt_inj.mp h3.symm)
theorem lsw_d {dft : Int} {ps : List (Int × Int)} {x : Int32} {ks : List Int32} {pc t : Nat} (hk : ps.all (fun p => ks.any (fun k => k.toInt == p.1)) = true) (hx : ∀ k ∈ ks, ¬ x = k) (ht : ai_jp pc dft = some t) : ai_jp pc (Op.lookupswitch.offset ps dft x.toInt) = some t := by
  have : Op.lookupswitch.offset ps dft x.toInt = dft := by
    clear ht
    induction ps with
    | nil => rfl
    | cons p l ih =>
      obtain ⟨a, b⟩ := p
      simp only [List.all_cons, Bool.and_eq_true] at hk
      rw [Op.lookupswitch.offset_cons, if_neg, ih hk.2]
      intro e
      obtain ⟨k, hk1, hk2⟩ := List.any_eq_true.mp hk.1
      have h3 : k.toInt = x.toInt := (eq_of_beq hk2).trans e
      exact hx k hk1 (Int32.toInt_inj.mp h3.symm)
  rw [this]
  exact ht
def ld (j n : Nat) (s : mS) (i : Int32) : Option Int32 := if ai_inb i n = true then some (s.2.2.1 j i.toNatClampNeg) else none
def sto (j n : Nat) (s : mS) (i v : Int32) : Option mS := if ai_inb i n = true then some (mSa s j (upd (s.2.2.1 j) i.toNatClampNeg v)) else none
def stb (j n : Nat) (s : mS) (i v : Int32) : Option mS := if ai_inb i n = true then some (mSa s j (upd (s.2.2.1 j) i.toNatClampNeg (v &&& 1))) else none
def ldJ (s : mS) (i : Int32) : Option Int64 := if ai_inb i 11 = true then some (s.2.2.2 i.toNatClampNeg) else none
def stJ (s : mS) (i : Int32) (v : Int64) : Option mS := if ai_inb i 11 = true then some (mSn s (vp_updL s.2.2.2 i.toNatClampNeg v)) else none
def pI (k : Nat) (s : mS) (v : Int32) : Option mS := some (mSi s k v)
def pB (k : Nat) (s : mS) (v : Int32) : Option mS := if v = 0 ∨ v = 1 then some (mSi s k v) else none
def pW (s : mS) (v : Int64) : Option mS := some (mSw s v)
section TM
variable {α : Type} {G : ai_G} {d k pc : Nat} {P : α → Option ai_R → Prop} {z9 : Option α} {L : ai_L} {st : List Value} {M : Nat} {σ : mS} {h0 h : ai_H}
theorem tm_gi {i k9 : Nat} (hd : decode (ai_mC k) pc = .ok (.getfield i, 3)) (hf : ai_fT (ai_mO k) i 7 = some k9) (hv : mF M σ k9 = .int (σ.1 k9)) (kk : Tj G d k P z9 (pc + 3) L (.int (σ.1 k9) :: st) (mH M σ h0)) : Tj G d k P z9 pc L (.ref M :: st) (mH M σ h0) :=
  tx_ex hd rfl (by simp only [ai_ex, ai_getf, rd_new mH_o, hf, hv]; rfl) kk
theorem tm_ga {i k9 j : Nat} (hd : decode (ai_mC k) pc = .ok (.getfield i, 3)) (hf : ai_fT (ai_mO k) i 7 = some k9) (hv : mF M σ k9 = .ref (M + j)) (kk : Tj G d k P z9 (pc + 3) L (.ref (M + j) :: st) (mH M σ h0)) : Tj G d k P z9 pc L (.ref M :: st) (mH M σ h0) :=
  tx_ex hd rfl (by simp only [ai_ex, ai_getf, rd_new mH_o, hf, hv]; rfl) kk
theorem tm_gw {i : Nat} (hd : decode (ai_mC k) pc = .ok (.getfield i, 3)) (hf : ai_fT (ai_mO k) i 7 = some 9) (hv : mF M σ 9 = .long σ.2.1) (kk : Tj G d k P z9 (pc + 3) L (.long σ.2.1 :: st) (mH M σ h0)) : Tj G d k P z9 pc L (.ref M :: st) (mH M σ h0) :=
  tx_ex hd rfl (by simp only [ai_ex, ai_getf, rd_new mH_o, hf, hv]; rfl) kk
theorem tm_pz {i k9 : Nat} {v : Int32} {r : mS → Option α} (hd : decode (ai_mC k) pc = .ok (.putfield i, 3)) (hf : ai_fT (ai_mO k) i 7 = some k9) (h1 : (decide (k9 < 82) && decide (m_off k9 = 0) && decide (¬ k9 = 9) && decide (ai_ty 7 k9 = .boolean) && !(ai_fin 7 k9)) = true) (hv : v = 0 ∨ v = 1) (kk : ∀ s, Tj G d k P (r s) (pc + 3) L st (mH M s h0)) : Tj G d k P ((pI k9 σ v).bind r) pc L (.int v :: .ref M :: st) (mH M σ h0) := by
  simp only [Bool.and_eq_true, decide_eq_true_eq] at h1
  obtain ⟨⟨⟨⟨a1, a2⟩, a3⟩, a4⟩, a5⟩ := h1
  have e : (!(ai_fin 7 k9) || (ai_mI k && decide ((ai_T 7 k9).1 = ai_cn (ai_mO k)))) = true := by rw [a5]; rfl
  have f : ai_fit (ai_ty 7 k9) (.int v) = true := by rw [a4]; simp [ai_fit, hv]
  exact tx_ex hd rfl (by simp only [ai_ex, ai_putf, mH_o, hf, f, e, Bool.and_self, if_true, mH_si a1 a2 a3]; rfl) (kk _)
theorem tm_pi {i k9 : Nat} {v : Int32} {r : mS → Option α} (hd : decode (ai_mC k) pc = .ok (.putfield i, 3)) (hf : ai_fT (ai_mO k) i 7 = some k9) (h1 : (decide (k9 < 82) && decide (m_off k9 = 0) && decide (¬ k9 = 9) && decide (ai_ty 7 k9 = .int) && !(ai_fin 7 k9)) = true) (kk : ∀ s, Tj G d k P (r s) (pc + 3) L st (mH M s h0)) : Tj G d k P ((pI k9 σ v).bind r) pc L (.int v :: .ref M :: st) (mH M σ h0) := by
  simp only [Bool.and_eq_true, decide_eq_true_eq] at h1
  obtain ⟨⟨⟨⟨a1, a2⟩, a3⟩, a4⟩, a5⟩ := h1
  have e : (!(ai_fin 7 k9) || (ai_mI k && decide ((ai_T 7 k9).1 = ai_cn (ai_mO k)))) = true := by rw [a5]; rfl
  have f : ai_fit (ai_ty 7 k9) (.int v) = true := by rw [a4]; rfl
  exact tx_ex hd rfl (by simp only [ai_ex, ai_putf, mH_o, hf, f, e, Bool.and_self, if_true, mH_si a1 a2 a3]; rfl) (kk _)
theorem tm_pb {i k9 : Nat} {v : Int32} {r : mS → Option α} (hd : decode (ai_mC k) pc = .ok (.putfield i, 3)) (hf : ai_fT (ai_mO k) i 7 = some k9) (h1 : (decide (k9 < 82) && decide (m_off k9 = 0) && decide (¬ k9 = 9) && decide (ai_ty 7 k9 = .boolean) && !(ai_fin 7 k9)) = true) (kk : ∀ s, Tj G d k P (r s) (pc + 3) L st (mH M s h0)) : Tj G d k P ((pB k9 σ v).bind r) pc L (.int v :: .ref M :: st) (mH M σ h0) := by
  by_cases hv : v = 0 ∨ v = 1
  · have : pB k9 σ v = pI k9 σ v := if_pos hv
    rw [this]
    exact tm_pz hd hf h1 hv kk
  · have : pB k9 σ v = none := if_neg hv
    rw [this]
    exact tq_none
theorem tm_pw {i : Nat} {v : Int64} {r : mS → Option α} (hd : decode (ai_mC k) pc = .ok (.putfield i, 3)) (hf : ai_fT (ai_mO k) i 7 = some 9) (kk : ∀ s, Tj G d k P (r s) (pc + 3) L st (mH M s h0)) : Tj G d k P ((pW σ v).bind r) pc L (.long v :: .ref M :: st) (mH M σ h0) := by
  have e : (!(ai_fin 7 9) || (ai_mI k && decide ((ai_T 7 9).1 = ai_cn (ai_mO k)))) = true := rfl
  have f : ai_fit (ai_ty 7 9) (.long v) = true := rfl
  exact tx_ex hd rfl (by simp only [ai_ex, ai_putf, mH_o, hf, f, e, Bool.and_self, if_true, mH_sw]; rfl) (kk _)
theorem tm_ild {j n : Nat} {i : Int32} {r : Int32 → Option α} (hd : decode (ai_mC k) pc = .ok (.iaload, 1)) (hj : (decide (0 < j) && decide (j < 45) && decide (¬ j = 2) && decide (m_kn j = 0) && decide (m_ln j = n)) = true) (kk : ∀ v, Tj G d k P (r v) (pc + 1) L (.int v :: st) (mH M σ h0)) : Tj G d k P ((ld j n σ i).bind r) pc L (.int i :: .ref (M + j) :: st) (mH M σ h0) := by
  simp only [Bool.and_eq_true, decide_eq_true_eq] at hj
  obtain ⟨⟨⟨⟨a1, a2⟩, a3⟩, a4⟩, a5⟩ := hj
  have e := mH_a (M := M) (σ := σ) (h0 := h0) a1 a2 a3
  rw [a4, a5] at e
  by_cases hi : ai_inb i n = true
  · have : ld j n σ i = some (σ.2.2.1 j i.toNatClampNeg) := if_pos hi
    rw [this]
    have hb : (decide (1 = 1) || decide (1 = 2)) = true := rfl
    exact tx_ex hd rfl (by simp only [ai_ex, ai_aldi, rd_new e, hi, hb, decide_true, Bool.true_or, Bool.and_self, if_true, cz_at (inb_lt hi)]; rfl) (kk _)
  · have : ld j n σ i = none := if_neg hi
    rw [this]
    exact tq_none
theorem tm_bld {j n : Nat} {i : Int32} {r : Int32 → Option α} (hd : decode (ai_mC k) pc = .ok (.baload, 1)) (hj : (decide (0 < j) && decide (j < 45) && decide (¬ j = 2) && decide (m_kn j = 1) && decide (m_ln j = n)) = true) (kk : ∀ v, Tj G d k P (r v) (pc + 1) L (.int v :: st) (mH M σ h0)) : Tj G d k P ((ld j n σ i).bind r) pc L (.int i :: .ref (M + j) :: st) (mH M σ h0) := by
  simp only [Bool.and_eq_true, decide_eq_true_eq] at hj
  obtain ⟨⟨⟨⟨a1, a2⟩, a3⟩, a4⟩, a5⟩ := hj
  have e := mH_a (M := M) (σ := σ) (h0 := h0) a1 a2 a3
  rw [a4, a5] at e
  by_cases hi : ai_inb i n = true
  · have : ld j n σ i = some (σ.2.2.1 j i.toNatClampNeg) := if_pos hi
    rw [this]
    have hb : (decide (1 = 1) || decide (1 = 2)) = true := rfl
    exact tx_ex hd rfl (by simp only [ai_ex, ai_aldi, rd_new e, hi, hb, decide_true, Bool.true_or, Bool.and_self, if_true, cz_at (inb_lt hi)]; rfl) (kk _)
  · have : ld j n σ i = none := if_neg hi
    rw [this]
    exact tq_none
theorem tm_ist {j n : Nat} {i v : Int32} {r : mS → Option α} (hd : decode (ai_mC k) pc = .ok (.iastore, 1)) (hj : (decide (0 < j) && decide (j < 45) && decide (¬ j = 2) && decide (m_kn j = 0) && decide (m_ln j = n)) = true) (kk : ∀ s, Tj G d k P (r s) (pc + 1) L st (mH M s h0)) : Tj G d k P ((sto j n σ i v).bind r) pc L (.int v :: .int i :: .ref (M + j) :: st) (mH M σ h0) := by
  simp only [Bool.and_eq_true, decide_eq_true_eq] at hj
  obtain ⟨⟨⟨⟨a1, a2⟩, a3⟩, a4⟩, a5⟩ := hj
  have e := mH_a (M := M) (σ := σ) (h0 := h0) a1 a2 a3
  have e2 := mH_sa (M := M) (σ := σ) (h0 := h0) (f := upd (σ.2.2.1 j) i.toNatClampNeg v) a1 a2 a3
  rw [a4, a5] at e e2
  by_cases hi : ai_inb i n = true
  · have : sto j n σ i v = some (mSa σ j (upd (σ.2.2.1 j) i.toNatClampNeg v)) := if_pos hi
    rw [this]
    have hn : vp_nar (ai_ek 0) v = v := rfl
    have hb : (decide (1 = 1) || decide (1 = 2)) = true := rfl
    exact tx_ex hd rfl (by simp only [ai_ex, ai_asti, e, hi, hn, hb, decide_true, Bool.and_self, if_true, cz_upd (inb_lt hi), e2]; rfl) (kk _)
  · have : sto j n σ i v = none := if_neg hi
    rw [this]
    exact tq_none
theorem tm_bst {j n : Nat} {i v : Int32} {r : mS → Option α} (hd : decode (ai_mC k) pc = .ok (.bastore, 1)) (hj : (decide (0 < j) && decide (j < 45) && decide (¬ j = 2) && decide (m_kn j = 1) && decide (m_ln j = n)) = true) (kk : ∀ s, Tj G d k P (r s) (pc + 1) L st (mH M s h0)) : Tj G d k P ((stb j n σ i v).bind r) pc L (.int v :: .int i :: .ref (M + j) :: st) (mH M σ h0) := by
  simp only [Bool.and_eq_true, decide_eq_true_eq] at hj
  obtain ⟨⟨⟨⟨a1, a2⟩, a3⟩, a4⟩, a5⟩ := hj
  have e := mH_a (M := M) (σ := σ) (h0 := h0) a1 a2 a3
  have e2 := mH_sa (M := M) (σ := σ) (h0 := h0) (f := upd (σ.2.2.1 j) i.toNatClampNeg (v &&& 1)) a1 a2 a3
  rw [a4, a5] at e e2
  by_cases hi : ai_inb i n = true
  · have : stb j n σ i v = some (mSa σ j (upd (σ.2.2.1 j) i.toNatClampNeg (v &&& 1))) := if_pos hi
    rw [this]
    have hn : vp_nar (ai_ek 1) v = (v &&& 1) := rfl
    have hb : (decide (1 = 1) || decide (1 = 2)) = true := rfl
    exact tx_ex hd rfl (by simp only [ai_ex, ai_asti, e, hi, hn, hb, decide_true, Bool.and_self, if_true, cz_upd (inb_lt hi), e2]; rfl) (kk _)
  · have : stb j n σ i v = none := if_neg hi
    rw [this]
    exact tq_none
theorem tm_lld {i : Int32} {r : Int64 → Option α} (hd : decode (ai_mC k) pc = .ok (.laload, 1)) (kk : ∀ v, Tj G d k P (r v) (pc + 1) L (.long v :: st) (mH M σ h0)) : Tj G d k P ((ldJ σ i).bind r) pc L (.int i :: .ref (M + 2) :: st) (mH M σ h0) := by
  by_cases hi : ai_inb i 11 = true
  · have : ldJ σ i = some (σ.2.2.2 i.toNatClampNeg) := if_pos hi
    rw [this]
    exact tx_ex hd rfl (by simp only [ai_ex, ai_aldl, rd_new mH_n, hi, decide_true, Bool.and_self, if_true, czJ_at (inb_lt hi)]; rfl) (kk _)
  · have : ldJ σ i = none := if_neg hi
    rw [this]
    exact tq_none
theorem tm_lst {i : Int32} {v : Int64} {r : mS → Option α} (hd : decode (ai_mC k) pc = .ok (.lastore, 1)) (kk : ∀ s, Tj G d k P (r s) (pc + 1) L st (mH M s h0)) : Tj G d k P ((stJ σ i v).bind r) pc L (.long v :: .int i :: .ref (M + 2) :: st) (mH M σ h0) := by
  by_cases hi : ai_inb i 11 = true
  · have : stJ σ i v = some (mSn σ (vp_updL σ.2.2.2 i.toNatClampNeg v)) := if_pos hi
    rw [this]
    exact tx_ex hd rfl (by simp only [ai_ex, ai_astl, mH_n, hi, decide_true, Bool.and_self, if_true, czJ_upd (inb_lt hi), mH_sn]; rfl) (kk _)
  · have : stJ σ i v = none := if_neg hi
    rw [this]
    exact tq_none
theorem tm_c0_I {i id : Nat} {y : Option (Int32 × mS)} {r : Int32 × mS → Option α} (hd : decode (ai_mC k) pc = .ok (.invokevirtual i, 3)) (hg : ai_gcI (ai_mO k) i = false) (hn : ai_aN (ai_mO k) i = some 1) (hT : ai_cT 2 (ai_mO k) i 7 = some id) (hw : ai_wt st ≤ 8) (hc : ∀ b, y = some b → ai_call G d id [.ref M] (mH M σ h0) = some (.inl (some (.int b.1)), mH M b.2 h0)) (kk : ∀ b, Tj G d k P (r b) (pc + 3) L (.int b.1 :: st) (mH M b.2 h0)) : Tj G d k P (y.bind r) pc L (.ref M :: st) (mH M σ h0) :=
  tx_call (v := fun b => some (.int b.1)) (hh := fun b => mH M b.2 h0) hd rfl (x_callV [] st rfl (rd_new mH_o) hg hn rfl hw hT) hc kk
theorem tm_c0_V {i id : Nat} {y : Option (mS)} {r : mS → Option α} (hd : decode (ai_mC k) pc = .ok (.invokevirtual i, 3)) (hg : ai_gcI (ai_mO k) i = false) (hn : ai_aN (ai_mO k) i = some 1) (hT : ai_cT 2 (ai_mO k) i 7 = some id) (hw : ai_wt st ≤ 8) (hc : ∀ b, y = some b → ai_call G d id [.ref M] (mH M σ h0) = some (.inl (none), mH M b h0)) (kk : ∀ b, Tj G d k P (r b) (pc + 3) L (st) (mH M b h0)) : Tj G d k P (y.bind r) pc L (.ref M :: st) (mH M σ h0) :=
  tx_call (v := fun b => none) (hh := fun b => mH M b h0) hd rfl (x_callV [] st rfl (rd_new mH_o) hg hn rfl hw hT) hc kk
theorem tm_c0_i {i id : Nat} {y : Option (Int32)} {r : Int32 → Option α} (hd : decode (ai_mC k) pc = .ok (.invokevirtual i, 3)) (hg : ai_gcI (ai_mO k) i = false) (hn : ai_aN (ai_mO k) i = some 1) (hT : ai_cT 2 (ai_mO k) i 7 = some id) (hw : ai_wt st ≤ 8) (hc : ∀ b, y = some b → ai_call G d id [.ref M] (mH M σ h0) = some (.inl (some (.int b)), mH M σ h0)) (kk : ∀ b, Tj G d k P (r b) (pc + 3) L (.int b :: st) (mH M σ h0)) : Tj G d k P (y.bind r) pc L (.ref M :: st) (mH M σ h0) :=
  tx_call (v := fun b => some (.int b)) (hh := fun b => mH M σ h0) hd rfl (x_callV [] st rfl (rd_new mH_o) hg hn rfl hw hT) hc kk
theorem tm_c0_u {i id : Nat} {y : Option (Unit)} {r : Unit → Option α} (hd : decode (ai_mC k) pc = .ok (.invokevirtual i, 3)) (hg : ai_gcI (ai_mO k) i = false) (hn : ai_aN (ai_mO k) i = some 1) (hT : ai_cT 2 (ai_mO k) i 7 = some id) (hw : ai_wt st ≤ 8) (hc : ∀ b, y = some b → ai_call G d id [.ref M] (mH M σ h0) = some (.inl (none), mH M σ h0)) (kk : ∀ b, Tj G d k P (r b) (pc + 3) L (st) (mH M σ h0)) : Tj G d k P (y.bind r) pc L (.ref M :: st) (mH M σ h0) :=
  tx_call (v := fun b => none) (hh := fun b => mH M σ h0) hd rfl (x_callV [] st rfl (rd_new mH_o) hg hn rfl hw hT) hc kk
theorem tm_c1_I {i id : Nat} {a1 : Value} {y : Option (Int32 × mS)} {r : Int32 × mS → Option α} (hd : decode (ai_mC k) pc = .ok (.invokevirtual i, 3)) (hg : ai_gcI (ai_mO k) i = false) (hn : ai_aN (ai_mO k) i = some 2) (hT : ai_cT 2 (ai_mO k) i 7 = some id) (hw : ai_wt st ≤ 8) (hc : ∀ b, y = some b → ai_call G d id [.ref M, a1] (mH M σ h0) = some (.inl (some (.int b.1)), mH M b.2 h0)) (kk : ∀ b, Tj G d k P (r b) (pc + 3) L (.int b.1 :: st) (mH M b.2 h0)) : Tj G d k P (y.bind r) pc L (a1 :: .ref M :: st) (mH M σ h0) :=
  tx_call (v := fun b => some (.int b.1)) (hh := fun b => mH M b.2 h0) hd rfl (x_callV [a1] st rfl (rd_new mH_o) hg hn rfl hw hT) hc kk
theorem tm_c1_V {i id : Nat} {a1 : Value} {y : Option (mS)} {r : mS → Option α} (hd : decode (ai_mC k) pc = .ok (.invokevirtual i, 3)) (hg : ai_gcI (ai_mO k) i = false) (hn : ai_aN (ai_mO k) i = some 2) (hT : ai_cT 2 (ai_mO k) i 7 = some id) (hw : ai_wt st ≤ 8) (hc : ∀ b, y = some b → ai_call G d id [.ref M, a1] (mH M σ h0) = some (.inl (none), mH M b h0)) (kk : ∀ b, Tj G d k P (r b) (pc + 3) L (st) (mH M b h0)) : Tj G d k P (y.bind r) pc L (a1 :: .ref M :: st) (mH M σ h0) :=
  tx_call (v := fun b => none) (hh := fun b => mH M b h0) hd rfl (x_callV [a1] st rfl (rd_new mH_o) hg hn rfl hw hT) hc kk
theorem tm_c1_i {i id : Nat} {a1 : Value} {y : Option (Int32)} {r : Int32 → Option α} (hd : decode (ai_mC k) pc = .ok (.invokevirtual i, 3)) (hg : ai_gcI (ai_mO k) i = false) (hn : ai_aN (ai_mO k) i = some 2) (hT : ai_cT 2 (ai_mO k) i 7 = some id) (hw : ai_wt st ≤ 8) (hc : ∀ b, y = some b → ai_call G d id [.ref M, a1] (mH M σ h0) = some (.inl (some (.int b)), mH M σ h0)) (kk : ∀ b, Tj G d k P (r b) (pc + 3) L (.int b :: st) (mH M σ h0)) : Tj G d k P (y.bind r) pc L (a1 :: .ref M :: st) (mH M σ h0) :=
  tx_call (v := fun b => some (.int b)) (hh := fun b => mH M σ h0) hd rfl (x_callV [a1] st rfl (rd_new mH_o) hg hn rfl hw hT) hc kk
theorem tm_c1_u {i id : Nat} {a1 : Value} {y : Option (Unit)} {r : Unit → Option α} (hd : decode (ai_mC k) pc = .ok (.invokevirtual i, 3)) (hg : ai_gcI (ai_mO k) i = false) (hn : ai_aN (ai_mO k) i = some 2) (hT : ai_cT 2 (ai_mO k) i 7 = some id) (hw : ai_wt st ≤ 8) (hc : ∀ b, y = some b → ai_call G d id [.ref M, a1] (mH M σ h0) = some (.inl (none), mH M σ h0)) (kk : ∀ b, Tj G d k P (r b) (pc + 3) L (st) (mH M σ h0)) : Tj G d k P (y.bind r) pc L (a1 :: .ref M :: st) (mH M σ h0) :=
  tx_call (v := fun b => none) (hh := fun b => mH M σ h0) hd rfl (x_callV [a1] st rfl (rd_new mH_o) hg hn rfl hw hT) hc kk
theorem ts_c1_i {i id : Nat} {a1 : Value} {y : Option Int32} {r : Int32 → Option α} (hd : decode (ai_mC k) pc = .ok (.invokestatic i, 3)) (hg : (ai_cpI (ai_mO k) i || ai_mxI (ai_mO k) i || ai_mnI (ai_mO k) i || ai_abI (ai_mO k) i) = false) (hn : ai_aN (ai_mO k) i = some 1) (hT : ai_cT 0 (ai_mO k) i 0 = some id) (hw : ai_wt st ≤ 8) (hc : ∀ b, y = some b → ai_call G d id [a1] h = some (.inl (some (.int b)), h)) (kk : ∀ b, Tj G d k P (r b) (pc + 3) L (.int b :: st) h) : Tj G d k P (y.bind r) pc L (a1 :: st) h :=
  tx_call (v := fun b => some (.int b)) (hh := fun _ => h) hd rfl (x_callS [a1] st rfl hg hn rfl hw hT) hc kk
theorem tm_c2_I {i id : Nat} {a1 a2 : Value} {y : Option (Int32 × mS)} {r : Int32 × mS → Option α} (hd : decode (ai_mC k) pc = .ok (.invokevirtual i, 3)) (hg : ai_gcI (ai_mO k) i = false) (hn : ai_aN (ai_mO k) i = some 3) (hT : ai_cT 2 (ai_mO k) i 7 = some id) (hw : ai_wt st ≤ 8) (hc : ∀ b, y = some b → ai_call G d id [.ref M, a1, a2] (mH M σ h0) = some (.inl (some (.int b.1)), mH M b.2 h0)) (kk : ∀ b, Tj G d k P (r b) (pc + 3) L (.int b.1 :: st) (mH M b.2 h0)) : Tj G d k P (y.bind r) pc L (a2 :: a1 :: .ref M :: st) (mH M σ h0) :=
  tx_call (v := fun b => some (.int b.1)) (hh := fun b => mH M b.2 h0) hd rfl (x_callV [a1, a2] st rfl (rd_new mH_o) hg hn rfl hw hT) hc kk
theorem tm_c2_V {i id : Nat} {a1 a2 : Value} {y : Option (mS)} {r : mS → Option α} (hd : decode (ai_mC k) pc = .ok (.invokevirtual i, 3)) (hg : ai_gcI (ai_mO k) i = false) (hn : ai_aN (ai_mO k) i = some 3) (hT : ai_cT 2 (ai_mO k) i 7 = some id) (hw : ai_wt st ≤ 8) (hc : ∀ b, y = some b → ai_call G d id [.ref M, a1, a2] (mH M σ h0) = some (.inl (none), mH M b h0)) (kk : ∀ b, Tj G d k P (r b) (pc + 3) L (st) (mH M b h0)) : Tj G d k P (y.bind r) pc L (a2 :: a1 :: .ref M :: st) (mH M σ h0) :=
  tx_call (v := fun b => none) (hh := fun b => mH M b h0) hd rfl (x_callV [a1, a2] st rfl (rd_new mH_o) hg hn rfl hw hT) hc kk
theorem tm_c2_i {i id : Nat} {a1 a2 : Value} {y : Option (Int32)} {r : Int32 → Option α} (hd : decode (ai_mC k) pc = .ok (.invokevirtual i, 3)) (hg : ai_gcI (ai_mO k) i = false) (hn : ai_aN (ai_mO k) i = some 3) (hT : ai_cT 2 (ai_mO k) i 7 = some id) (hw : ai_wt st ≤ 8) (hc : ∀ b, y = some b → ai_call G d id [.ref M, a1, a2] (mH M σ h0) = some (.inl (some (.int b)), mH M σ h0)) (kk : ∀ b, Tj G d k P (r b) (pc + 3) L (.int b :: st) (mH M σ h0)) : Tj G d k P (y.bind r) pc L (a2 :: a1 :: .ref M :: st) (mH M σ h0) :=
  tx_call (v := fun b => some (.int b)) (hh := fun b => mH M σ h0) hd rfl (x_callV [a1, a2] st rfl (rd_new mH_o) hg hn rfl hw hT) hc kk
theorem tm_c2_u {i id : Nat} {a1 a2 : Value} {y : Option (Unit)} {r : Unit → Option α} (hd : decode (ai_mC k) pc = .ok (.invokevirtual i, 3)) (hg : ai_gcI (ai_mO k) i = false) (hn : ai_aN (ai_mO k) i = some 3) (hT : ai_cT 2 (ai_mO k) i 7 = some id) (hw : ai_wt st ≤ 8) (hc : ∀ b, y = some b → ai_call G d id [.ref M, a1, a2] (mH M σ h0) = some (.inl (none), mH M σ h0)) (kk : ∀ b, Tj G d k P (r b) (pc + 3) L (st) (mH M σ h0)) : Tj G d k P (y.bind r) pc L (a2 :: a1 :: .ref M :: st) (mH M σ h0) :=
  tx_call (v := fun b => none) (hh := fun b => mH M σ h0) hd rfl (x_callV [a1, a2] st rfl (rd_new mH_o) hg hn rfl hw hT) hc kk
theorem ts_c2_i {i id : Nat} {a1 a2 : Value} {y : Option Int32} {r : Int32 → Option α} (hd : decode (ai_mC k) pc = .ok (.invokestatic i, 3)) (hg : (ai_cpI (ai_mO k) i || ai_mxI (ai_mO k) i || ai_mnI (ai_mO k) i || ai_abI (ai_mO k) i) = false) (hn : ai_aN (ai_mO k) i = some 2) (hT : ai_cT 0 (ai_mO k) i 0 = some id) (hw : ai_wt st ≤ 8) (hc : ∀ b, y = some b → ai_call G d id [a1, a2] h = some (.inl (some (.int b)), h)) (kk : ∀ b, Tj G d k P (r b) (pc + 3) L (.int b :: st) h) : Tj G d k P (y.bind r) pc L (a2 :: a1 :: st) h :=
  tx_call (v := fun b => some (.int b)) (hh := fun _ => h) hd rfl (x_callS [a1, a2] st rfl hg hn rfl hw hT) hc kk
theorem tm_c3_I {i id : Nat} {a1 a2 a3 : Value} {y : Option (Int32 × mS)} {r : Int32 × mS → Option α} (hd : decode (ai_mC k) pc = .ok (.invokevirtual i, 3)) (hg : ai_gcI (ai_mO k) i = false) (hn : ai_aN (ai_mO k) i = some 4) (hT : ai_cT 2 (ai_mO k) i 7 = some id) (hw : ai_wt st ≤ 8) (hc : ∀ b, y = some b → ai_call G d id [.ref M, a1, a2, a3] (mH M σ h0) = some (.inl (some (.int b.1)), mH M b.2 h0)) (kk : ∀ b, Tj G d k P (r b) (pc + 3) L (.int b.1 :: st) (mH M b.2 h0)) : Tj G d k P (y.bind r) pc L (a3 :: a2 :: a1 :: .ref M :: st) (mH M σ h0) :=
  tx_call (v := fun b => some (.int b.1)) (hh := fun b => mH M b.2 h0) hd rfl (x_callV [a1, a2, a3] st rfl (rd_new mH_o) hg hn rfl hw hT) hc kk
theorem tm_c3_V {i id : Nat} {a1 a2 a3 : Value} {y : Option (mS)} {r : mS → Option α} (hd : decode (ai_mC k) pc = .ok (.invokevirtual i, 3)) (hg : ai_gcI (ai_mO k) i = false) (hn : ai_aN (ai_mO k) i = some 4) (hT : ai_cT 2 (ai_mO k) i 7 = some id) (hw : ai_wt st ≤ 8) (hc : ∀ b, y = some b → ai_call G d id [.ref M, a1, a2, a3] (mH M σ h0) = some (.inl (none), mH M b h0)) (kk : ∀ b, Tj G d k P (r b) (pc + 3) L (st) (mH M b h0)) : Tj G d k P (y.bind r) pc L (a3 :: a2 :: a1 :: .ref M :: st) (mH M σ h0) :=
  tx_call (v := fun b => none) (hh := fun b => mH M b h0) hd rfl (x_callV [a1, a2, a3] st rfl (rd_new mH_o) hg hn rfl hw hT) hc kk
theorem tm_c3_i {i id : Nat} {a1 a2 a3 : Value} {y : Option (Int32)} {r : Int32 → Option α} (hd : decode (ai_mC k) pc = .ok (.invokevirtual i, 3)) (hg : ai_gcI (ai_mO k) i = false) (hn : ai_aN (ai_mO k) i = some 4) (hT : ai_cT 2 (ai_mO k) i 7 = some id) (hw : ai_wt st ≤ 8) (hc : ∀ b, y = some b → ai_call G d id [.ref M, a1, a2, a3] (mH M σ h0) = some (.inl (some (.int b)), mH M σ h0)) (kk : ∀ b, Tj G d k P (r b) (pc + 3) L (.int b :: st) (mH M σ h0)) : Tj G d k P (y.bind r) pc L (a3 :: a2 :: a1 :: .ref M :: st) (mH M σ h0) :=
  tx_call (v := fun b => some (.int b)) (hh := fun b => mH M σ h0) hd rfl (x_callV [a1, a2, a3] st rfl (rd_new mH_o) hg hn rfl hw hT) hc kk
theorem tm_c3_u {i id : Nat} {a1 a2 a3 : Value} {y : Option (Unit)} {r : Unit → Option α} (hd : decode (ai_mC k) pc = .ok (.invokevirtual i, 3)) (hg : ai_gcI (ai_mO k) i = false) (hn : ai_aN (ai_mO k) i = some 4) (hT : ai_cT 2 (ai_mO k) i 7 = some id) (hw : ai_wt st ≤ 8) (hc : ∀ b, y = some b → ai_call G d id [.ref M, a1, a2, a3] (mH M σ h0) = some (.inl (none), mH M σ h0)) (kk : ∀ b, Tj G d k P (r b) (pc + 3) L (st) (mH M σ h0)) : Tj G d k P (y.bind r) pc L (a3 :: a2 :: a1 :: .ref M :: st) (mH M σ h0) :=
  tx_call (v := fun b => none) (hh := fun b => mH M σ h0) hd rfl (x_callV [a1, a2, a3] st rfl (rd_new mH_o) hg hn rfl hw hT) hc kk
theorem ts_c3_i {i id : Nat} {a1 a2 a3 : Value} {y : Option Int32} {r : Int32 → Option α} (hd : decode (ai_mC k) pc = .ok (.invokestatic i, 3)) (hg : (ai_cpI (ai_mO k) i || ai_mxI (ai_mO k) i || ai_mnI (ai_mO k) i || ai_abI (ai_mO k) i) = false) (hn : ai_aN (ai_mO k) i = some 3) (hT : ai_cT 0 (ai_mO k) i 0 = some id) (hw : ai_wt st ≤ 8) (hc : ∀ b, y = some b → ai_call G d id [a1, a2, a3] h = some (.inl (some (.int b)), h)) (kk : ∀ b, Tj G d k P (r b) (pc + 3) L (.int b :: st) h) : Tj G d k P (y.bind r) pc L (a3 :: a2 :: a1 :: st) h :=
  tx_call (v := fun b => some (.int b)) (hh := fun _ => h) hd rfl (x_callS [a1, a2, a3] st rfl hg hn rfl hw hT) hc kk
theorem tm_c4_I {i id : Nat} {a1 a2 a3 a4 : Value} {y : Option (Int32 × mS)} {r : Int32 × mS → Option α} (hd : decode (ai_mC k) pc = .ok (.invokevirtual i, 3)) (hg : ai_gcI (ai_mO k) i = false) (hn : ai_aN (ai_mO k) i = some 5) (hT : ai_cT 2 (ai_mO k) i 7 = some id) (hw : ai_wt st ≤ 8) (hc : ∀ b, y = some b → ai_call G d id [.ref M, a1, a2, a3, a4] (mH M σ h0) = some (.inl (some (.int b.1)), mH M b.2 h0)) (kk : ∀ b, Tj G d k P (r b) (pc + 3) L (.int b.1 :: st) (mH M b.2 h0)) : Tj G d k P (y.bind r) pc L (a4 :: a3 :: a2 :: a1 :: .ref M :: st) (mH M σ h0) :=
  tx_call (v := fun b => some (.int b.1)) (hh := fun b => mH M b.2 h0) hd rfl (x_callV [a1, a2, a3, a4] st rfl (rd_new mH_o) hg hn rfl hw hT) hc kk
theorem tm_c4_V {i id : Nat} {a1 a2 a3 a4 : Value} {y : Option (mS)} {r : mS → Option α} (hd : decode (ai_mC k) pc = .ok (.invokevirtual i, 3)) (hg : ai_gcI (ai_mO k) i = false) (hn : ai_aN (ai_mO k) i = some 5) (hT : ai_cT 2 (ai_mO k) i 7 = some id) (hw : ai_wt st ≤ 8) (hc : ∀ b, y = some b → ai_call G d id [.ref M, a1, a2, a3, a4] (mH M σ h0) = some (.inl (none), mH M b h0)) (kk : ∀ b, Tj G d k P (r b) (pc + 3) L (st) (mH M b h0)) : Tj G d k P (y.bind r) pc L (a4 :: a3 :: a2 :: a1 :: .ref M :: st) (mH M σ h0) :=
  tx_call (v := fun b => none) (hh := fun b => mH M b h0) hd rfl (x_callV [a1, a2, a3, a4] st rfl (rd_new mH_o) hg hn rfl hw hT) hc kk
theorem tm_c4_i {i id : Nat} {a1 a2 a3 a4 : Value} {y : Option (Int32)} {r : Int32 → Option α} (hd : decode (ai_mC k) pc = .ok (.invokevirtual i, 3)) (hg : ai_gcI (ai_mO k) i = false) (hn : ai_aN (ai_mO k) i = some 5) (hT : ai_cT 2 (ai_mO k) i 7 = some id) (hw : ai_wt st ≤ 8) (hc : ∀ b, y = some b → ai_call G d id [.ref M, a1, a2, a3, a4] (mH M σ h0) = some (.inl (some (.int b)), mH M σ h0)) (kk : ∀ b, Tj G d k P (r b) (pc + 3) L (.int b :: st) (mH M σ h0)) : Tj G d k P (y.bind r) pc L (a4 :: a3 :: a2 :: a1 :: .ref M :: st) (mH M σ h0) :=
  tx_call (v := fun b => some (.int b)) (hh := fun b => mH M σ h0) hd rfl (x_callV [a1, a2, a3, a4] st rfl (rd_new mH_o) hg hn rfl hw hT) hc kk
theorem tm_c4_u {i id : Nat} {a1 a2 a3 a4 : Value} {y : Option (Unit)} {r : Unit → Option α} (hd : decode (ai_mC k) pc = .ok (.invokevirtual i, 3)) (hg : ai_gcI (ai_mO k) i = false) (hn : ai_aN (ai_mO k) i = some 5) (hT : ai_cT 2 (ai_mO k) i 7 = some id) (hw : ai_wt st ≤ 8) (hc : ∀ b, y = some b → ai_call G d id [.ref M, a1, a2, a3, a4] (mH M σ h0) = some (.inl (none), mH M σ h0)) (kk : ∀ b, Tj G d k P (r b) (pc + 3) L (st) (mH M σ h0)) : Tj G d k P (y.bind r) pc L (a4 :: a3 :: a2 :: a1 :: .ref M :: st) (mH M σ h0) :=
  tx_call (v := fun b => none) (hh := fun b => mH M σ h0) hd rfl (x_callV [a1, a2, a3, a4] st rfl (rd_new mH_o) hg hn rfl hw hT) hc kk
theorem ts_c4_i {i id : Nat} {a1 a2 a3 a4 : Value} {y : Option Int32} {r : Int32 → Option α} (hd : decode (ai_mC k) pc = .ok (.invokestatic i, 3)) (hg : (ai_cpI (ai_mO k) i || ai_mxI (ai_mO k) i || ai_mnI (ai_mO k) i || ai_abI (ai_mO k) i) = false) (hn : ai_aN (ai_mO k) i = some 4) (hT : ai_cT 0 (ai_mO k) i 0 = some id) (hw : ai_wt st ≤ 8) (hc : ∀ b, y = some b → ai_call G d id [a1, a2, a3, a4] h = some (.inl (some (.int b)), h)) (kk : ∀ b, Tj G d k P (r b) (pc + 3) L (.int b :: st) h) : Tj G d k P (y.bind r) pc L (a4 :: a3 :: a2 :: a1 :: st) h :=
  tx_call (v := fun b => some (.int b)) (hh := fun _ => h) hd rfl (x_callS [a1, a2, a3, a4] st rfl hg hn rfl hw hT) hc kk
theorem tm_c5_I {i id : Nat} {a1 a2 a3 a4 a5 : Value} {y : Option (Int32 × mS)} {r : Int32 × mS → Option α} (hd : decode (ai_mC k) pc = .ok (.invokevirtual i, 3)) (hg : ai_gcI (ai_mO k) i = false) (hn : ai_aN (ai_mO k) i = some 6) (hT : ai_cT 2 (ai_mO k) i 7 = some id) (hw : ai_wt st ≤ 8) (hc : ∀ b, y = some b → ai_call G d id [.ref M, a1, a2, a3, a4, a5] (mH M σ h0) = some (.inl (some (.int b.1)), mH M b.2 h0)) (kk : ∀ b, Tj G d k P (r b) (pc + 3) L (.int b.1 :: st) (mH M b.2 h0)) : Tj G d k P (y.bind r) pc L (a5 :: a4 :: a3 :: a2 :: a1 :: .ref M :: st) (mH M σ h0) :=
  tx_call (v := fun b => some (.int b.1)) (hh := fun b => mH M b.2 h0) hd rfl (x_callV [a1, a2, a3, a4, a5] st rfl (rd_new mH_o) hg hn rfl hw hT) hc kk
theorem tm_c5_V {i id : Nat} {a1 a2 a3 a4 a5 : Value} {y : Option (mS)} {r : mS → Option α} (hd : decode (ai_mC k) pc = .ok (.invokevirtual i, 3)) (hg : ai_gcI (ai_mO k) i = false) (hn : ai_aN (ai_mO k) i = some 6) (hT : ai_cT 2 (ai_mO k) i 7 = some id) (hw : ai_wt st ≤ 8) (hc : ∀ b, y = some b → ai_call G d id [.ref M, a1, a2, a3, a4, a5] (mH M σ h0) = some (.inl (none), mH M b h0)) (kk : ∀ b, Tj G d k P (r b) (pc + 3) L (st) (mH M b h0)) : Tj G d k P (y.bind r) pc L (a5 :: a4 :: a3 :: a2 :: a1 :: .ref M :: st) (mH M σ h0) :=
  tx_call (v := fun b => none) (hh := fun b => mH M b h0) hd rfl (x_callV [a1, a2, a3, a4, a5] st rfl (rd_new mH_o) hg hn rfl hw hT) hc kk
theorem tm_c5_i {i id : Nat} {a1 a2 a3 a4 a5 : Value} {y : Option (Int32)} {r : Int32 → Option α} (hd : decode (ai_mC k) pc = .ok (.invokevirtual i, 3)) (hg : ai_gcI (ai_mO k) i = false) (hn : ai_aN (ai_mO k) i = some 6) (hT : ai_cT 2 (ai_mO k) i 7 = some id) (hw : ai_wt st ≤ 8) (hc : ∀ b, y = some b → ai_call G d id [.ref M, a1, a2, a3, a4, a5] (mH M σ h0) = some (.inl (some (.int b)), mH M σ h0)) (kk : ∀ b, Tj G d k P (r b) (pc + 3) L (.int b :: st) (mH M σ h0)) : Tj G d k P (y.bind r) pc L (a5 :: a4 :: a3 :: a2 :: a1 :: .ref M :: st) (mH M σ h0) :=
  tx_call (v := fun b => some (.int b)) (hh := fun b => mH M σ h0) hd rfl (x_callV [a1, a2, a3, a4, a5] st rfl (rd_new mH_o) hg hn rfl hw hT) hc kk
theorem tm_c5_u {i id : Nat} {a1 a2 a3 a4 a5 : Value} {y : Option (Unit)} {r : Unit → Option α} (hd : decode (ai_mC k) pc = .ok (.invokevirtual i, 3)) (hg : ai_gcI (ai_mO k) i = false) (hn : ai_aN (ai_mO k) i = some 6) (hT : ai_cT 2 (ai_mO k) i 7 = some id) (hw : ai_wt st ≤ 8) (hc : ∀ b, y = some b → ai_call G d id [.ref M, a1, a2, a3, a4, a5] (mH M σ h0) = some (.inl (none), mH M σ h0)) (kk : ∀ b, Tj G d k P (r b) (pc + 3) L (st) (mH M σ h0)) : Tj G d k P (y.bind r) pc L (a5 :: a4 :: a3 :: a2 :: a1 :: .ref M :: st) (mH M σ h0) :=
  tx_call (v := fun b => none) (hh := fun b => mH M σ h0) hd rfl (x_callV [a1, a2, a3, a4, a5] st rfl (rd_new mH_o) hg hn rfl hw hT) hc kk
theorem ts_c5_i {i id : Nat} {a1 a2 a3 a4 a5 : Value} {y : Option Int32} {r : Int32 → Option α} (hd : decode (ai_mC k) pc = .ok (.invokestatic i, 3)) (hg : (ai_cpI (ai_mO k) i || ai_mxI (ai_mO k) i || ai_mnI (ai_mO k) i || ai_abI (ai_mO k) i) = false) (hn : ai_aN (ai_mO k) i = some 5) (hT : ai_cT 0 (ai_mO k) i 0 = some id) (hw : ai_wt st ≤ 8) (hc : ∀ b, y = some b → ai_call G d id [a1, a2, a3, a4, a5] h = some (.inl (some (.int b)), h)) (kk : ∀ b, Tj G d k P (r b) (pc + 3) L (.int b :: st) h) : Tj G d k P (y.bind r) pc L (a5 :: a4 :: a3 :: a2 :: a1 :: st) h :=
  tx_call (v := fun b => some (.int b)) (hh := fun _ => h) hd rfl (x_callS [a1, a2, a3, a4, a5] st rfl hg hn rfl hw hT) hc kk
theorem tm_c6_I {i id : Nat} {a1 a2 a3 a4 a5 a6 : Value} {y : Option (Int32 × mS)} {r : Int32 × mS → Option α} (hd : decode (ai_mC k) pc = .ok (.invokevirtual i, 3)) (hg : ai_gcI (ai_mO k) i = false) (hn : ai_aN (ai_mO k) i = some 7) (hT : ai_cT 2 (ai_mO k) i 7 = some id) (hw : ai_wt st ≤ 8) (hc : ∀ b, y = some b → ai_call G d id [.ref M, a1, a2, a3, a4, a5, a6] (mH M σ h0) = some (.inl (some (.int b.1)), mH M b.2 h0)) (kk : ∀ b, Tj G d k P (r b) (pc + 3) L (.int b.1 :: st) (mH M b.2 h0)) : Tj G d k P (y.bind r) pc L (a6 :: a5 :: a4 :: a3 :: a2 :: a1 :: .ref M :: st) (mH M σ h0) :=
  tx_call (v := fun b => some (.int b.1)) (hh := fun b => mH M b.2 h0) hd rfl (x_callV [a1, a2, a3, a4, a5, a6] st rfl (rd_new mH_o) hg hn rfl hw hT) hc kk
theorem tm_c6_V {i id : Nat} {a1 a2 a3 a4 a5 a6 : Value} {y : Option (mS)} {r : mS → Option α} (hd : decode (ai_mC k) pc = .ok (.invokevirtual i, 3)) (hg : ai_gcI (ai_mO k) i = false) (hn : ai_aN (ai_mO k) i = some 7) (hT : ai_cT 2 (ai_mO k) i 7 = some id) (hw : ai_wt st ≤ 8) (hc : ∀ b, y = some b → ai_call G d id [.ref M, a1, a2, a3, a4, a5, a6] (mH M σ h0) = some (.inl (none), mH M b h0)) (kk : ∀ b, Tj G d k P (r b) (pc + 3) L (st) (mH M b h0)) : Tj G d k P (y.bind r) pc L (a6 :: a5 :: a4 :: a3 :: a2 :: a1 :: .ref M :: st) (mH M σ h0) :=
  tx_call (v := fun b => none) (hh := fun b => mH M b h0) hd rfl (x_callV [a1, a2, a3, a4, a5, a6] st rfl (rd_new mH_o) hg hn rfl hw hT) hc kk
theorem tm_c6_i {i id : Nat} {a1 a2 a3 a4 a5 a6 : Value} {y : Option (Int32)} {r : Int32 → Option α} (hd : decode (ai_mC k) pc = .ok (.invokevirtual i, 3)) (hg : ai_gcI (ai_mO k) i = false) (hn : ai_aN (ai_mO k) i = some 7) (hT : ai_cT 2 (ai_mO k) i 7 = some id) (hw : ai_wt st ≤ 8) (hc : ∀ b, y = some b → ai_call G d id [.ref M, a1, a2, a3, a4, a5, a6] (mH M σ h0) = some (.inl (some (.int b)), mH M σ h0)) (kk : ∀ b, Tj G d k P (r b) (pc + 3) L (.int b :: st) (mH M σ h0)) : Tj G d k P (y.bind r) pc L (a6 :: a5 :: a4 :: a3 :: a2 :: a1 :: .ref M :: st) (mH M σ h0) :=
  tx_call (v := fun b => some (.int b)) (hh := fun b => mH M σ h0) hd rfl (x_callV [a1, a2, a3, a4, a5, a6] st rfl (rd_new mH_o) hg hn rfl hw hT) hc kk
theorem tm_c6_u {i id : Nat} {a1 a2 a3 a4 a5 a6 : Value} {y : Option (Unit)} {r : Unit → Option α} (hd : decode (ai_mC k) pc = .ok (.invokevirtual i, 3)) (hg : ai_gcI (ai_mO k) i = false) (hn : ai_aN (ai_mO k) i = some 7) (hT : ai_cT 2 (ai_mO k) i 7 = some id) (hw : ai_wt st ≤ 8) (hc : ∀ b, y = some b → ai_call G d id [.ref M, a1, a2, a3, a4, a5, a6] (mH M σ h0) = some (.inl (none), mH M σ h0)) (kk : ∀ b, Tj G d k P (r b) (pc + 3) L (st) (mH M σ h0)) : Tj G d k P (y.bind r) pc L (a6 :: a5 :: a4 :: a3 :: a2 :: a1 :: .ref M :: st) (mH M σ h0) :=
  tx_call (v := fun b => none) (hh := fun b => mH M σ h0) hd rfl (x_callV [a1, a2, a3, a4, a5, a6] st rfl (rd_new mH_o) hg hn rfl hw hT) hc kk
theorem ts_c6_i {i id : Nat} {a1 a2 a3 a4 a5 a6 : Value} {y : Option Int32} {r : Int32 → Option α} (hd : decode (ai_mC k) pc = .ok (.invokestatic i, 3)) (hg : (ai_cpI (ai_mO k) i || ai_mxI (ai_mO k) i || ai_mnI (ai_mO k) i || ai_abI (ai_mO k) i) = false) (hn : ai_aN (ai_mO k) i = some 6) (hT : ai_cT 0 (ai_mO k) i 0 = some id) (hw : ai_wt st ≤ 8) (hc : ∀ b, y = some b → ai_call G d id [a1, a2, a3, a4, a5, a6] h = some (.inl (some (.int b)), h)) (kk : ∀ b, Tj G d k P (r b) (pc + 3) L (.int b :: st) h) : Tj G d k P (y.bind r) pc L (a6 :: a5 :: a4 :: a3 :: a2 :: a1 :: st) h :=
  tx_call (v := fun b => some (.int b)) (hh := fun _ => h) hd rfl (x_callS [a1, a2, a3, a4, a5, a6] st rfl hg hn rfl hw hT) hc kk
theorem ts_c7_i {i id : Nat} {a1 a2 a3 a4 a5 a6 a7 : Value} {y : Option Int32} {r : Int32 → Option α} (hd : decode (ai_mC k) pc = .ok (.invokestatic i, 3)) (hg : (ai_cpI (ai_mO k) i || ai_mxI (ai_mO k) i || ai_mnI (ai_mO k) i || ai_abI (ai_mO k) i) = false) (hn : ai_aN (ai_mO k) i = some 7) (hT : ai_cT 0 (ai_mO k) i 0 = some id) (hw : ai_wt st ≤ 8) (hc : ∀ b, y = some b → ai_call G d id [a1, a2, a3, a4, a5, a6, a7] h = some (.inl (some (.int b)), h)) (kk : ∀ b, Tj G d k P (r b) (pc + 3) L (.int b :: st) h) : Tj G d k P (y.bind r) pc L (a7 :: a6 :: a5 :: a4 :: a3 :: a2 :: a1 :: st) h :=
  tx_call (v := fun b => some (.int b)) (hh := fun _ => h) hd rfl (x_callS [a1, a2, a3, a4, a5, a6, a7] st rfl hg hn rfl hw hT) hc kk
end TM

/-! THE LAW: both objects in one heap; rows -/
set_option maxRecDepth 100000
/-- what holds between two calls -/
def IV (G : ai_G) (X M : Nat) (y : yS) (s : mS) : Prop := PR G X y s ∧ oldY G y ∧ (∀ a, M ≤ a → a < M + 45 → yt y a = none) ∧ M + 45 ≤ yn y ∧ X < M ∧ ∀ a c, G.2 a = some c → a < M
section P0
variable {G : ai_G} {X M : Nat} {y y' : yS} {s s' : mS} {h0 : ai_H}
theorem pair_eq (h : ∀ a, M ≤ a → a < M + 45 → yt y a = none) : yH y (mH M s h0) = mH M s (yH y h0) := by
  have e : (yH y (mH M s h0)).1 = (mH M s (yH y h0)).1 := by
    funext a
    show yC y a ((mH M s h0).1 a) = (if a = M then some (.inr (7, mF M s)) else if M < a ∧ a < M + 45 then some (mA s (a - M)) else yC y a (h0.1 a))
    by_cases h1 : a = M
    · subst h1
      rw [if_pos rfl]
      unfold yC
      rw [h a (Nat.le_refl _) (by omega)]
      exact if_pos rfl
    · rw [if_neg h1]
      by_cases h2 : M < a ∧ a < M + 45
      · rw [if_pos h2]
        unfold yC
        rw [h a (by omega) h2.2]
        show (if a = M then some (.inr (7, mF M s)) else if M < a ∧ a < M + 45 then some (mA s (a - M)) else h0.1 a) = _
        rw [if_neg h1, if_pos h2]
      · rw [if_neg h2]
        show yC y a (if a = M then some (.inr (7, mF M s)) else if M < a ∧ a < M + 45 then some (mA s (a - M)) else h0.1 a) = _
        rw [if_neg h1, if_neg h2]
  exact Prod.ext e rfl
theorem IV.old (h : IV G X M y s) (hO : hOld G h0) : hOld G (mH M s h0) := by
  intro a c hc
  have := h.2.2.2.2.2 a c hc
  show (if a = M then some (.inr (7, mF M s)) else if M < a ∧ a < M + 45 then some (mA s (a - M)) else h0.1 a) = none
  rw [if_neg (by omega), if_neg (by omega)]
  exact hO a c hc
theorem IV.next (h : IV G X M y s) (hp : PR G X y' s') (hb : bnd y y') : IV G X M y' s' := by
  obtain ⟨-, h2, h3, h4, h5, h6⟩ := h
  exact ⟨hp, h2.bn hb, fun a a1 a2 => by rw [hb.2.2.2 a (by omega)]; exact h3 a a1 a2, by have := hb.1; omega, h5, h6⟩
theorem IV.x (h : IV G X M y s) : ai_rd G (mH M s (yH y h0)) X = some (.inr (0, yO y X 0)) := by
  obtain ⟨⟨μ, ⟨O, r, bd, ld, K, sg, hX⟩, -⟩, -, -, -, h5, -⟩ := h
  refine rd_new ?_
  show (if X = M then some (.inr (7, mF M s)) else if M < X ∧ X < M + 45 then some (mA s (X - M)) else yC y X (h0.1 X)) = _
  rw [if_neg (by omega), if_neg (by omega)]
  unfold yC
  rw [hX.1.1.1]
theorem IV.m : ai_rd G (mH M s (yH y h0)) M = some (.inr (7, mF M s)) := rd_new mH_o
theorem IV.b (h : IV G X M y s) (hO : hOld G h0) {b : Nat} {c : ai_C} (hb : G.2 b = some c) : ai_rd G (mH M s (yH y h0)) b = some c := by
  have h1 := h.2.2.2.2.2 b c hb
  have h2 := (h.2.1 b c hb).1
  unfold ai_rd
  have : (mH M s (yH y h0)).1 b = none := by
    show (if b = M then some (.inr (7, mF M s)) else if M < b ∧ b < M + 45 then some (mA s (b - M)) else yC y b (h0.1 b)) = _
    rw [if_neg (by omega), if_neg (by omega)]
    unfold yC
    rw [h2]
    exact hO b c hb
  rw [this]
  exact hb
end P0
section P0B
variable {α : Type} {G : ai_G} {d k pc : Nat} {P : α → Option ai_R → Prop} {z9 : Option α} {L : ai_L} {st : List Value} {h : ai_H}
theorem tl_iald {a n : Nat} {f : Nat → Int32} {i v : Int32} (hd : decode (ai_mC k) pc = .ok (.iaload, 1)) (hr : ai_rd G h a = some (.inl (0, n, .inl f))) (hi : ai_inb i n = true) (hv : f i.toNatClampNeg = v) (kk : Tj G d k P z9 (pc + 1) L (.int v :: st) h) : Tj G d k P z9 pc L (.int i :: .ref a :: st) h :=
  tx_ex hd rfl (by subst hv; simp only [ai_ex, ai_aldi, hr, hi, decide_true, Bool.and_self, if_true]; rfl) kk
theorem tl_alen {a t n : Nat} {f} {v : Int32} (hd : decode (ai_mC k) pc = .ok (.arraylength, 1)) (hr : ai_rd G h a = some (.inl (t, n, f))) (ht : t < 7) (hv : Int32.ofNat n = v) (kk : Tj G d k P z9 (pc + 1) L (.int v :: st) h) : Tj G d k P z9 pc L (.ref a :: st) h :=
  tx_ex hd rfl (by subst hv; simp only [ai_ex, ai_alen, hr, ht, if_true]; rfl) kk
theorem tl_callV {i a cI id n : Nat} {f : Nat → Value} {v : Value} {h' : ai_H} (tl : List Value) {st' : List Value} (hd : decode (ai_mC k) pc = .ok (.invokevirtual i, 3)) (hst : (Value.ref a :: tl).reverse ++ st = st') (hr : ai_rd G h a = some (.inr (cI, f))) (hg : ai_gcI (ai_mO k) i = false) (hn : ai_aN (ai_mO k) i = some n) (hl : tl.length + 1 = n) (hw : ai_wt st ≤ 8) (hT : ai_cT 2 (ai_mO k) i cI = some id) (hc : ai_call G d id (.ref a :: tl) h = some (.inl (some v), h')) (kk : Tj G d k P z9 (pc + 3) L (v :: st) h') : Tj G d k P z9 pc L st' h :=
  tx_call (y := some ()) (r := fun _ => z9) (v := fun _ => some v) (hh := fun _ => h') hd rfl (x_callV tl st hst hr hg hn hl hw hT) (fun _ _ => hc) (fun _ => kk)
theorem tl_callC {i a id n : Nat} {h' : ai_H} (tl : List Value) {st' : List Value} (hd : decode (ai_mC k) pc = .ok (.invokespecial i, 3)) (hst : (Value.ref a :: tl).reverse ++ st = st') (hg : (ai_oI (ai_mO k) i || ai_wI (ai_mO k) i) = false) (hn : ai_aN (ai_mO k) i = some n) (hl : tl.length + 1 = n) (hw : ai_wt st ≤ 8) (hT : ai_cT 1 (ai_mO k) i 0 = some id) (hc : ai_call G d id (.ref a :: tl) h = some (.inl none, h')) (kk : Tj G d k P z9 (pc + 3) L st h') : Tj G d k P z9 pc L st' h :=
  tx_call (y := some ()) (r := fun _ => z9) (v := fun _ => none) (hh := fun _ => h') hd rfl (x_callC tl st hst hg hn hl hw hT) (fun _ _ => hc) (fun _ => kk)
theorem tl_ifeq1 {u : Int32} {off : Int} {t : Nat} (hd : decode (ai_mC k) pc = .ok (.ifCond .eq off, 3)) (ht : ai_jp pc off = some t) (hu : u = 0) (kk : Tj G d k P z9 t L st h) : Tj G d k P z9 pc L (.int u :: st) h := by
  have := tq_if_eq (u := u) (z1 := z9) (z2 := none) hd ht kk tq_none
  rw [if_pos hu] at this
  exact this
theorem tl_ifeq0 {u : Int32} {off : Int} {t : Nat} (hd : decode (ai_mC k) pc = .ok (.ifCond .eq off, 3)) (ht : ai_jp pc off = some t) (hu : ¬ u = 0) (kk : Tj G d k P z9 (pc + 3) L st h) : Tj G d k P z9 pc L (.int u :: st) h := by
  have := tq_if_eq (u := u) (z1 := none) (z2 := z9) hd ht tq_none kk
  rw [if_neg hu] at this
  exact this
theorem tl_icmpeq {u : Int32} {off : Int} {t : Nat} (hd : decode (ai_mC k) pc = .ok (.if_icmp .eq off, 3)) (ht : ai_jp pc off = some t) (kk : Tj G d k P z9 t L st h) : Tj G d k P z9 pc L (.int u :: .int u :: st) h := by
  have := tq_icmp_eq (u := u) (v := u) (z1 := z9) (z2 := none) hd ht kk tq_none
  rw [if_pos rfl] at this
  exact this
theorem tl_gt1 {u v : Int32} {off : Int} {t : Nat} (hd : decode (ai_mC k) pc = .ok (.if_icmp .gt off, 3)) (ht : ai_jp pc off = some t) (hu : v < u) (kk : Tj G d k P z9 t L st h) : Tj G d k P z9 pc L (.int v :: .int u :: st) h := by
  have := tq_icmp_gt (u := u) (v := v) (z1 := z9) (z2 := none) hd ht kk tq_none
  rw [if_pos hu] at this
  exact this
theorem tl_gt0 {u v : Int32} {off : Int} {t : Nat} (hd : decode (ai_mC k) pc = .ok (.if_icmp .gt off, 3)) (ht : ai_jp pc off = some t) (hu : ¬ v < u) (kk : Tj G d k P z9 (pc + 3) L st h) : Tj G d k P z9 pc L (.int v :: .int u :: st) h := by
  have := tq_icmp_gt (u := u) (v := v) (z1 := none) (z2 := z9) hd ht tq_none kk
  rw [if_neg hu] at this
  exact this
/-- an int of the script is pushed -/
theorem tl_arg {b X M n : Nat} {f : Nat → Int32} {z j : Int} (h1 : decode (ai_mC 0) pc = .ok (.aload_n 0, 1)) (h2 : decode (ai_mC 0) (pc + 1) = .ok (.iload_n 3, 1)) (h3 : decode (ai_mC 0) (pc + 2) = .ok (.iconst j, 1)) (h4 : decode (ai_mC 0) (pc + 3) = .ok (.iadd, 1)) (h5 : decode (ai_mC 0) (pc + 4) = .ok (.iaload, 1)) (hr : ai_rd G h b = some (.inl (0, n, .inl f))) (hz : 0 ≤ z ∧ z ≤ 1000) (hj : 0 ≤ j ∧ z + j < n) (hn : n ≤ 1000) (kk : Tj G d 0 P z9 (pc + 5) [some (.ref b), some (.ref X), some (.ref M), some (.int (iI z))] (.int (f (z + j).toNat) :: st) h) : Tj G d 0 P z9 pc [some (.ref b), some (.ref X), some (.ref M), some (.int (iI z))] st h := by
  refine tq_aload_n h1 rfl ?_
  refine tq_iload_n h2 rfl ?_
  refine tq_iconst h3 (v := iI j) rfl ?_
  refine tq_iadd h4 ?_
  rw [iI_add]
  exact tl_iald h5 hr (inb_i (by omega) (by omega) (by omega)) (by rw [iI_clamp (by omega) (by omega)]) kk
end P0B

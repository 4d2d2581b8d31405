/-! LAYER 3: what is laid, both sides; answers that change nothing else -/
set_option maxRecDepth 100000
def uNil (μ : Mu) : Mu := uLay μ 0 (uA μ 26)
def uRow (μ : Mu) (n best : Int) : Mu := if best < 0 then uNil μ else uLay μ n (dig best n)
def pLay : List Nat := [5, 4, 12, 13, 22, 1, 101, 3, 103, 23, 205, 206, 207, 208, 6, 14, 8, 108, 9, 109, 26, 27, 127, 47, 25, 18, 118, 28, 128]
section E7
variable {G : ai_G} {O : Nat → Nat} {L : List Nat} {c d : Nat} {y y1 : yS} {μ : Mu} {X r : Nat} {bd ld : Nat → Nat} {K : Int → Nat} {sg : Nat → Nat} {s s1 : mS}
theorem XQ.lay {n : Int} {g : Int → Int} (h : XQ G O y μ X r bd ld K sg) (f : yF O L c d y y1) (hL : L.all (fun k => !(pLay.contains k)) = true) (e1 : yf y1 X 13 = iI n) (e2 : ∀ z, 0 ≤ z → z < n → ya y1 (X + 26) z.toNat = iI (g z)) : XQ G O y1 (uLay μ n g) X r bd ld K sg := by
  obtain ⟨hS, hR, ⟨hN, hV⟩, hI, hT, hl, hW, hK, hB, hG⟩ := h
  exact ⟨hS.fr f (all_sub hL rfl), hR.fr f (off_all hL rfl) (off_all hL rfl), ⟨hN.fr f (off_all hL rfl), hV.fr hN f (off_all hL rfl) (off_all hL rfl) rfl⟩, ⟨(x_f0 hS f 5 (off_all hL rfl)).trans hI.1, (x_f0 hS f 6 (off_all hL rfl)).trans hI.2.1, (x_f0 hS f 7 (off_all hL rfl)).trans hI.2.2.1, (x_f0 hS f 8 (off_all hL rfl)).trans hI.2.2.2.1, e1⟩, hT.fr hS f (off_all hL rfl), e2, hW.fr hS f (off_all hL rfl), hK.fr f (all_sub hL rfl), hB.fr hS f (all_sub hL rfl), hG.fr f (all_sub hL rfl)⟩
theorem XQ.row {n best : Int} (h : XQ G O y μ X r bd ld K sg) (f : yF O L c d y y1) (hL : L.all (fun k => !(pLay.contains k)) = true) (hl : laidY n best y1 X) : XQ G O y1 (uRow μ n best) X r bd ld K sg := by
  unfold uRow
  rcases hl with ⟨h0, h1⟩ | ⟨h0, h1, h2⟩
  · rw [if_pos (by omega)]
    exact h.lay f hL h1 (fun z z1 z2 => by omega)
  · rw [if_neg (by omega)]
    exact h.lay f hL h1 h2
theorem MR.nil {J : List Nat} (h : MR μ s) (f : fr [61] J s s1) (hJ : J.all (fun k => !([16, 17, 18, 19, 20, 21, 5, 6, 22, 1, 34, 35, 36, 37, 38, 39, 43, 24, 44].contains k)) = true) (e1 : s1.1 61 = iI 0) : MR (uNil μ) s1 := h.lay f hJ e1 (fun z z1 z2 => by omega)
theorem MR.row {J : List Nat} {n best : Int} (h : MR μ s) (f : fr [61] J s s1) (hJ : J.all (fun k => !([16, 17, 18, 19, 20, 21, 5, 6, 22, 1, 34, 35, 36, 37, 38, 39, 43, 24, 44].contains k)) = true) (hl : laidOk n best s1) : MR (uRow μ n best) s1 := by
  unfold uRow
  rcases hl with ⟨h0, h1⟩ | ⟨h0, h1, h2⟩
  · rw [if_pos (by omega)]
    exact h.nil f hJ h1
  · rw [if_neg (by omega)]
    exact h.lay f hJ h1 h2
def uCool (μ : Mu) (b what : Int) : Mu := if (0 ≤ b ∧ b < rB (uR μ)) ∧ 0 ≤ what ∧ what ≤ 2 then uRow μ (lft (uR μ) (uX μ) b) (bestN (coolC (uR μ) (uX μ) b) (p3 (lft (uR μ) (uX μ) b)).toNat).2 else uNil μ
def uStra (μ : Mu) (b to : Int) : Mu := if (0 ≤ b ∧ b < rB (uR μ)) ∧ 0 ≤ to ∧ to ≤ rC (uR μ) - 1 then uRow μ (lft (uR μ) (uX μ) b) (bestN (strC (uR μ) (uX μ) b to) (p3 (lft (uR μ) (uX μ) b)).toNat).2 else uNil μ
def gsV (μ : Mu) (b c : Int) : Int × Int × Int := gsX (uR μ) (uX μ) b (landS (uR μ) (uX μ) b) c (landS (uR μ) (uX μ) c) (rC (uR μ)).toNat
def canGue (μ : Mu) (b c : Int) : Prop := (0 ≤ b ∧ b < rB (uR μ)) ∧ (0 ≤ c ∧ c < rB (uR μ)) ∧ ¬ b = c ∧ ¬ landS (uR μ) (uX μ) b = 0 ∧ ¬ landS (uR μ) (uX μ) c = 0
theorem M_coolest (h : MR μ s) (hw : wfM μ) {b what : Int} (h1 : -2147483648 ≤ b) (h2 : b < 2147483648) (h3 : -2147483648 ≤ what) (h4 : what < 2147483648) : ∃ s', fm_coolest s (iI b) (iI what) = some (iI (if (0 ≤ b ∧ b < rB (uR μ)) ∧ 0 ≤ what ∧ what ≤ 2 then coolV (uR μ) (uX μ) b what else -1), s') ∧ MR (uCool μ b what) s' := by
  obtain ⟨s', e, f, g⟩ := m_coolest h.1 hw.1 h.2.1 hw.2.1 h1 h2 h3 h4
  refine ⟨s', e, ?_⟩
  unfold uCool
  split at g
  · rename_i hc
    rw [if_pos hc]
    exact h.row f rfl g
  · rename_i hc
    rw [if_neg hc]
    exact h.nil f rfl g
theorem X_coolest (h : XR G y μ X) (hw : wfM μ) {b what : Int} (h1 : -2147483648 ≤ b) (h2 : b < 2147483648) (h3 : -2147483648 ≤ what) (h4 : what < 2147483648) : ∃ y', fy_B_coolest G y X (iI b) (iI what) = some (iI (if (0 ≤ b ∧ b < rB (uR μ)) ∧ 0 ≤ what ∧ what ≤ 2 then coolV (uR μ) (uX μ) b what else -1), y') ∧ XR G y' (uCool μ b what) X ∧ bnd y y' := by
  obtain ⟨O, r, bd, ld, K, sg, h⟩ := h
  obtain ⟨y', e, f, g⟩ := c_coolest h.xc hw.1 hw.2.1 h1 h2 h3 h4
  refine ⟨y', e, ?_, f.room (by omega) (by omega)⟩
  unfold uCool
  split at g
  · rename_i hc
    rw [if_pos hc]
    exact XR.of (h.row f rfl g)
  · rename_i hc
    rw [if_neg hc]
    exact XR.of (h.lay f rfl g (fun z z1 z2 => by omega))
theorem M_straight (h : MR μ s) (hw : wfM μ) {b to : Int} (h1 : -2147483648 ≤ b) (h2 : b < 2147483648) (h3 : -2147483648 ≤ to) (h4 : to < 2147483648) : ∃ s', fm_straight s (iI b) (iI to) = some (iI (if (0 ≤ b ∧ b < rB (uR μ)) ∧ 0 ≤ to ∧ to ≤ rC (uR μ) - 1 then strtV (uR μ) (uX μ) b to else -1), s') ∧ MR (uStra μ b to) s' := by
  obtain ⟨s', e, f, g⟩ := m_straight h.1 hw.1 h.2.1 hw.2.1 h1 h2 h3 h4
  refine ⟨s', e, ?_⟩
  unfold uStra
  split at g
  · rename_i hc
    rw [if_pos hc]
    exact h.row f rfl g
  · rename_i hc
    rw [if_neg hc]
    exact h.nil f rfl g
theorem X_straight (h : XR G y μ X) (hw : wfM μ) {b to : Int} (h1 : -2147483648 ≤ b) (h2 : b < 2147483648) (h3 : -2147483648 ≤ to) (h4 : to < 2147483648) : ∃ y', fy_B_straight G y X (iI b) (iI to) = some (iI (if (0 ≤ b ∧ b < rB (uR μ)) ∧ 0 ≤ to ∧ to ≤ rC (uR μ) - 1 then strtV (uR μ) (uX μ) b to else -1), y') ∧ XR G y' (uStra μ b to) X ∧ bnd y y' := by
  obtain ⟨O, r, bd, ld, K, sg, h⟩ := h
  obtain ⟨y', e, f, g⟩ := c_straight h.xc hw.1 hw.2.1 h1 h2 h3 h4
  refine ⟨y', e, ?_, f.room (by omega) (by omega)⟩
  unfold uStra
  split at g
  · rename_i hc
    rw [if_pos hc]
    exact XR.of (h.row f rfl g)
  · rename_i hc
    rw [if_neg hc]
    exact XR.of (h.lay f rfl g (fun z z1 z2 => by omega))
def uGueR (μ : Mu) (b c : Int) : Mu := uLay μ 2 (fun z => if z = 0 then (gsV μ b c).2.1 else (gsV μ b c).2.2)
theorem M_guests (h : MR μ s) (hw : wfM μ) {b c : Int} (h1 : -2147483648 ≤ b) (h2 : b < 2147483648) (h3 : -2147483648 ≤ c) (h4 : c < 2147483648) : (canGue μ b c → ∃ s', fm_guests s (iI b) (iI c) = some (iI (gsV μ b c).1, s') ∧ (¬ (gsV μ b c).1 = 0 → MR (uGueR μ b c) s') ∧ ((gsV μ b c).1 = 0 → MR (uNil μ) s')) ∧ (¬ canGue μ b c → ∃ s', fm_guests s (iI b) (iI c) = some (iI (-1), s') ∧ MR (uNil μ) s') := by
  obtain ⟨s', e, f, g⟩ := m_guests h.1 hw.1 h.2.1 hw.2.1 h1 h2 h3 h4
  refine ⟨fun hc => ⟨s', ?_, fun hn => ?_, fun hn => ?_⟩, fun hc => ⟨s', ?_, ?_⟩⟩
  · unfold canGue at hc; rw [e, if_pos hc]; rfl
  · rw [if_pos ⟨hc, hn⟩] at g
    refine h.lay f rfl g.1 (fun z z1 z2 => ?_)
    by_cases hz : z = 0
    · subst hz; rw [if_pos rfl]; exact g.2.1
    · obtain rfl : z = 1 := by omega
      rw [if_neg hz]; exact g.2.2
  · rw [if_neg (fun z => z.2 hn)] at g
    exact h.nil f rfl g
  · unfold canGue at hc; rw [e, if_neg hc]
  · rw [if_neg (fun z => hc z.1)] at g
    exact h.nil f rfl g
theorem X_guests (h : XR G y μ X) (hw : wfM μ) {b c : Int} (h1 : -2147483648 ≤ b) (h2 : b < 2147483648) (h3 : -2147483648 ≤ c) (h4 : c < 2147483648) : (canGue μ b c → ∃ y', fy_B_guests G y X (iI b) (iI c) = some (iI (gsV μ b c).1, y') ∧ (¬ (gsV μ b c).1 = 0 → XR G y' (uGueR μ b c) X) ∧ ((gsV μ b c).1 = 0 → XR G y' (uNil μ) X) ∧ bnd y y') ∧ (¬ canGue μ b c → ∃ y', fy_B_guests G y X (iI b) (iI c) = some (iI (-1), y') ∧ XR G y' (uNil μ) X ∧ bnd y y') := by
  obtain ⟨O, r, bd, ld, K, sg, h⟩ := h
  obtain ⟨y', e, f, g⟩ := c_guests h.xc hw.1 hw.2.1 h1 h2 h3 h4
  refine ⟨fun hc => ⟨y', ?_, fun hn => ?_, fun hn => ?_, f.room (by omega) (by omega)⟩, fun hc => ⟨y', ?_, ?_, f.room (by omega) (by omega)⟩⟩
  · unfold canGue at hc; rw [e, if_pos hc]; rfl
  · rw [if_pos ⟨hc, hn⟩] at g
    refine XR.of (h.lay f rfl g.1 (fun z z1 z2 => ?_))
    by_cases hz : z = 0
    · subst hz; rw [if_pos rfl]; exact g.2.1
    · obtain rfl : z = 1 := by omega
      rw [if_neg hz]; exact g.2.2
  · rw [if_neg (fun z => z.2 hn)] at g
    exact XR.of (h.lay f rfl g (fun z z1 z2 => by omega))
  · unfold canGue at hc; rw [e, if_neg hc]
  · rw [if_neg (fun z => hc z.1)] at g
    exact XR.of (h.lay f rfl g (fun z z1 z2 => by omega))
end E7

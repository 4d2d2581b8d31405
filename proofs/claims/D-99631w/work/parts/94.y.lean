/-! LAYER 2: the component's store: tags, int fields, int arrays, reference fields, reference arrays, long fields, next address, slots used (printed by tools/mk94.py) -/
set_option maxRecDepth 100000
abbrev yS : Type := (Nat → Option ((Nat × Nat) ⊕ Nat)) × (Nat → Nat → Int32) × (Nat → Nat → Int32) × (Nat → Nat → Option Nat) × (Nat → Nat → Option Nat) × (Nat → Nat → Int64) × Nat × Nat
abbrev yt (y : yS) : Nat → Option ((Nat × Nat) ⊕ Nat) := y.1
abbrev yf (y : yS) : Nat → Nat → Int32 := y.2.1
abbrev ya (y : yS) : Nat → Nat → Int32 := y.2.2.1
abbrev yr (y : yS) : Nat → Nat → Option Nat := y.2.2.2.1
abbrev ye (y : yS) : Nat → Nat → Option Nat := y.2.2.2.2.1
abbrev yj (y : yS) : Nat → Nat → Int64 := y.2.2.2.2.2.1
abbrev yn (y : yS) : Nat := y.2.2.2.2.2.2.1
abbrev yu (y : yS) : Nat := y.2.2.2.2.2.2.2
def fv (ty : FieldType) (i : Int32) (r : Option Nat) (j : Int64) : Value := match ty with
  | .int => .int i
  | .boolean => .int i
  | .byte => .int i
  | .char => .int i
  | .short => .int i
  | .long => .long j
  | .object _ => va_rf r
  | .array _ => va_rf r
  | t => defaultValue t
def isIt (ty : FieldType) : Bool := match ty with
  | .int => true
  | .boolean => true
  | .byte => true
  | .char => true
  | .short => true
  | _ => false
def isRt (ty : FieldType) : Bool := match ty with
  | .object _ => true
  | .array _ => true
  | _ => false
def yO (y : yS) (a c : Nat) : Nat → Value := fun k => fv (ai_ty c k) (yf y a k) (yr y a k) (yj y a k)
def yA (y : yS) (a : Nat) (p : Nat × Nat) : ai_C := .inl (p.1, p.2, if p.1 < 4 then .inl (ya y a) else .inr (.inr (.inr (.inr (ye y a)))))
def yC (y : yS) (a : Nat) (c : Option ai_C) : Option ai_C := match yt y a with
  | some (.inr k) => some (.inr (k, yO y a k))
  | some (.inl p) => some (yA y a p)
  | none => c
def yH (y : yS) (h0 : ai_H) : ai_H := (fun a => yC y a (h0.1 a), yn y, yu y)
def sF (y : yS) (a k : Nat) (v : Int32) : yS := (y.1, va_up y.2.1 a (upd (y.2.1 a) k v), y.2.2)
def sA (y : yS) (a : Nat) (f : Nat → Int32) : yS := (y.1, y.2.1, va_up y.2.2.1 a f, y.2.2.2)
def sR (y : yS) (a k : Nat) (v : Option Nat) : yS := (y.1, y.2.1, y.2.2.1, va_up y.2.2.2.1 a (va_up (y.2.2.2.1 a) k v), y.2.2.2.2)
def sE (y : yS) (a : Nat) (f : Nat → Option Nat) : yS := (y.1, y.2.1, y.2.2.1, y.2.2.2.1, va_up y.2.2.2.2.1 a f, y.2.2.2.2.2)
def sJ (y : yS) (a k : Nat) (v : Int64) : yS := (y.1, y.2.1, y.2.2.1, y.2.2.2.1, y.2.2.2.2.1, va_up y.2.2.2.2.2.1 a (vp_updL (y.2.2.2.2.2.1 a) k v), y.2.2.2.2.2.2)
def nO (y : yS) (c : Nat) : yS := (va_up y.1 (yn y) (some (.inr c)), va_up (yf y) (yn y) (fun _ => 0), ya y, va_up (yr y) (yn y) (fun _ => none), ye y, va_up (yj y) (yn y) (fun _ => 0), yn y + 1, yu y + ai_nf c)
def nA (y : yS) (kd n : Nat) : yS := (va_up y.1 (yn y) (some (.inl (kd, n))), yf y, va_up (ya y) (yn y) (fun _ => 0), yr y, va_up (ye y) (yn y) (fun _ => none), yj y, yn y + 1, yu y + n)
section YH
variable {y : yS} {h0 : ai_H} {a c k : Nat}
theorem yH_o (e : yt y a = some (.inr c)) : (yH y h0).1 a = some (.inr (c, yO y a c)) := by
  show yC y a _ = _
  unfold yC
  rw [e]
theorem yH_a {p : Nat × Nat} (e : yt y a = some (.inl p)) : (yH y h0).1 a = some (yA y a p) := by
  show yC y a _ = _
  unfold yC
  rw [e]
theorem yH_n (e : yt y a = none) : (yH y h0).1 a = h0.1 a := by
  show yC y a _ = _
  unfold yC
  rw [e]
theorem yH_set {y1 : yS} {q : ai_C} (ht : y1.1 = y.1) (hn : yn y1 = yn y) (hu : yu y1 = yu y) (ho : ∀ b, ¬ b = a → yf y1 b = yf y b ∧ ya y1 b = ya y b ∧ yr y1 b = yr y b ∧ ye y1 b = ye y b ∧ yj y1 b = yj y b) (hc : (yH y1 h0).1 a = some q) : ai_set (yH y h0) a q = yH y1 h0 := by
  refine Prod.ext ?_ (Prod.ext hn.symm hu.symm)
  funext b
  show va_up _ a (some q) b = _
  unfold va_up
  by_cases hb : b = a
  · rw [if_pos hb, hb, hc]
  · rw [if_neg hb]
    obtain ⟨h1, h2, h3, h4, h5⟩ := ho b hb
    show yC y b _ = yC y1 b _
    unfold yC yO yA
    rw [show yt y1 = yt y from ht, h1, h2, h3, h4, h5]
theorem yH_sF {v : Int32} (e : yt y a = some (.inr c)) (hk : isIt (ai_ty c k) = true) : ai_set (yH y h0) a (.inr (c, va_up (yO y a c) k (.int v))) = yH (sF y a k v) h0 := by
  refine yH_set rfl rfl rfl (fun b hb => ⟨if_neg hb, rfl, rfl, rfl, rfl⟩) ?_
  rw [yH_o (y := sF y a k v) (c := c) e]
  congr 3
  funext i
  unfold yO va_up
  by_cases hi : i = k
  · rw [if_pos hi, hi]
    have : yf (sF y a k v) a k = v := by simp [sF, yf, va_up, upd]
    rw [this]
    revert hk
    unfold isIt fv
    cases ai_ty c k <;> simp
  · rw [if_neg hi]
    have : yf (sF y a k v) a i = yf y a i := by simp [sF, yf, va_up, upd, hi]
    rw [this]
    rfl
theorem yH_sR {v : Option Nat} (e : yt y a = some (.inr c)) (hk : isRt (ai_ty c k) = true) : ai_set (yH y h0) a (.inr (c, va_up (yO y a c) k (va_rf v))) = yH (sR y a k v) h0 := by
  refine yH_set rfl rfl rfl (fun b hb => ⟨rfl, rfl, if_neg hb, rfl, rfl⟩) ?_
  rw [yH_o (y := sR y a k v) (c := c) e]
  congr 3
  funext i
  unfold yO va_up
  by_cases hi : i = k
  · rw [if_pos hi, hi]
    have : yr (sR y a k v) a k = v := by simp [sR, yr, va_up]
    rw [this]
    revert hk
    unfold isRt fv
    cases ai_ty c k <;> simp
  · rw [if_neg hi]
    have : yr (sR y a k v) a i = yr y a i := by simp [sR, yr, va_up, hi]
    rw [this]
    rfl
theorem yH_sJ {v : Int64} (e : yt y a = some (.inr c)) (hk : ai_ty c k = .long) : ai_set (yH y h0) a (.inr (c, va_up (yO y a c) k (.long v))) = yH (sJ y a k v) h0 := by
  refine yH_set rfl rfl rfl (fun b hb => ⟨rfl, rfl, rfl, rfl, if_neg hb⟩) ?_
  rw [yH_o (y := sJ y a k v) (c := c) e]
  congr 3
  funext i
  unfold yO va_up
  by_cases hi : i = k
  · rw [if_pos hi, hi]
    have : yj (sJ y a k v) a k = v := by simp [sJ, yj, va_up, vp_updL]
    rw [this, hk]
    rfl
  · rw [if_neg hi]
    have : yj (sJ y a k v) a i = yj y a i := by simp [sJ, yj, va_up, vp_updL, hi]
    rw [this]
    rfl
theorem yH_sA {p : Nat × Nat} {f : Nat → Int32} (e : yt y a = some (.inl p)) (hk : p.1 < 4) : ai_set (yH y h0) a (.inl (p.1, p.2, .inl f)) = yH (sA y a f) h0 := by
  refine yH_set rfl rfl rfl (fun b hb => ⟨rfl, if_neg hb, rfl, rfl, rfl⟩) ?_
  rw [yH_a (y := sA y a f) (p := p) e]
  unfold yA
  rw [if_pos hk]
  have : ya (sA y a f) a = f := by simp [sA, ya, va_up]
  rw [this]
theorem yH_sE {p : Nat × Nat} {f : Nat → Option Nat} (e : yt y a = some (.inl p)) (hk : 4 ≤ p.1) : ai_set (yH y h0) a (.inl (p.1, p.2, .inr (.inr (.inr (.inr f))))) = yH (sE y a f) h0 := by
  refine yH_set rfl rfl rfl (fun b hb => ⟨rfl, rfl, rfl, if_neg hb, rfl⟩) ?_
  rw [yH_a (y := sE y a f) (p := p) e]
  unfold yA
  rw [if_neg (by omega)]
  have : ye (sE y a f) a = f := by simp [sE, ye, va_up]
  rw [this]
theorem yH_push {y1 : yS} {q : ai_C} {n : Nat} (ht : ∀ b, ¬ b = yn y → y1.1 b = y.1 b) (hn : yn y1 = yn y + 1) (hu : yu y1 = yu y + n) (ho : ∀ b, ¬ b = yn y → yf y1 b = yf y b ∧ ya y1 b = ya y b ∧ yr y1 b = yr y b ∧ ye y1 b = ye y b ∧ yj y1 b = yj y b) (hc : (yH y1 h0).1 (yn y) = some q) : ai_push (yH y h0) q n = yH y1 h0 := by
  refine Prod.ext ?_ (Prod.ext hn.symm hu.symm)
  funext b
  show va_up _ (yn y) (some q) b = _
  unfold va_up
  by_cases hb : b = yn y
  · rw [if_pos hb, hb, hc]
  · rw [if_neg hb]
    obtain ⟨h1, h2, h3, h4, h5⟩ := ho b hb
    show yC y b _ = yC y1 b _
    unfold yC yO yA
    rw [show yt y1 b = yt y b from ht b hb, h1, h2, h3, h4, h5]
theorem yH_nO : ai_push (yH y h0) (.inr (c, fun k => defaultValue (ai_ty c k))) (ai_nf c) = yH (nO y c) h0 := by
  refine yH_push (fun b hb => if_neg hb) rfl rfl (fun b hb => ⟨if_neg hb, rfl, if_neg hb, rfl, if_neg hb⟩) ?_
  rw [yH_o (y := nO y c) (a := yn y) (c := c) (if_pos rfl)]
  congr 3
  funext i
  unfold yO
  have h1 : yf (nO y c) (yn y) i = 0 := by simp [nO, yf, va_up]
  have h2 : yr (nO y c) (yn y) i = none := by simp [nO, yr, va_up]
  have h3 : yj (nO y c) (yn y) i = 0 := by simp [nO, yj, va_up]
  rw [h1, h2, h3]
  cases ai_ty c i <;> rfl
theorem yH_nAi {kd n : Nat} (hk : kd < 4) : ai_push (yH y h0) (.inl (kd, n, .inl (fun _ => 0))) n = yH (nA y kd n) h0 := by
  refine yH_push (fun b hb => if_neg hb) rfl rfl (fun b hb => ⟨rfl, if_neg hb, rfl, if_neg hb, rfl⟩) ?_
  rw [yH_a (y := nA y kd n) (a := yn y) (p := (kd, n)) (if_pos rfl)]
  unfold yA
  rw [if_pos hk]
  have : ya (nA y kd n) (yn y) = fun _ => 0 := by simp [nA, ya, va_up]
  rw [this]
theorem yH_nAe {kd n : Nat} (hk : 4 ≤ kd) : ai_push (yH y h0) (.inl (kd, n, .inr (.inr (.inr (.inr (fun _ => none)))))) n = yH (nA y kd n) h0 := by
  refine yH_push (fun b hb => if_neg hb) rfl rfl (fun b hb => ⟨rfl, if_neg hb, rfl, if_neg hb, rfl⟩) ?_
  rw [yH_a (y := nA y kd n) (a := yn y) (p := (kd, n)) (if_pos rfl)]
  unfold yA
  rw [if_neg (by show ¬ kd < 4; omega)]
  have : ye (nA y kd n) (yn y) = fun _ => none := by simp [nA, ye, va_up]
  rw [this]
end YH
/-! what the component's functions are made of -/
def gI (c k : Nat) (y : yS) (a : Nat) : Option Int32 := if yt y a = some (.inr c) then some (yf y a k) else none
def gR (c k : Nat) (y : yS) (a : Nat) : Option Nat := if yt y a = some (.inr c) then yr y a k else none
def gN (c k : Nat) (y : yS) (a : Nat) : Option (Option Nat) := if yt y a = some (.inr c) then some (yr y a k) else none
def gJ (c k : Nat) (y : yS) (a : Nat) : Option Int64 := if yt y a = some (.inr c) then some (yj y a k) else none
def wI (c k : Nat) (y : yS) (a : Nat) (v : Int32) : Option yS := if yt y a = some (.inr c) then some (sF y a k v) else none
def wZ (c k : Nat) (y : yS) (a : Nat) (v : Int32) : Option yS := if yt y a = some (.inr c) ∧ (v = 0 ∨ v = 1) then some (sF y a k v) else none
def wR (c k : Nat) (y : yS) (a : Nat) (v : Option Nat) : Option yS := if yt y a = some (.inr c) then some (sR y a k v) else none
def wJ (c k : Nat) (y : yS) (a : Nat) (v : Int64) : Option yS := if yt y a = some (.inr c) then some (sJ y a k v) else none
def ck (c : Nat) (y : yS) (a : Nat) : Option Unit := if yt y a = some (.inr c) then some () else none
def cl (y : yS) (a : Nat) : Option Nat := match yt y a with
  | some (.inr c) => some c
  | _ => none
def aI (y : yS) (a : Nat) (i : Int32) : Option Int32 := match yt y a with
  | some (.inl p) => if p.1 = 0 ∧ ai_inb i p.2 = true then some (ya y a i.toNatClampNeg) else none
  | _ => none
def wA (y : yS) (a : Nat) (i v : Int32) : Option yS := match yt y a with
  | some (.inl p) => if p.1 = 0 ∧ ai_inb i p.2 = true then some (sA y a (upd (ya y a) i.toNatClampNeg v)) else none
  | _ => none
def aB (G : ai_G) (y : yS) (a : Nat) (i : Int32) : Option Int32 := match yt y a with
  | some (.inl p) => if (p.1 = 1 ∨ p.1 = 2) ∧ ai_inb i p.2 = true then some (ya y a i.toNatClampNeg) else none
  | some (.inr _) => none
  | none => match G.2 a with
    | some (.inl (t, n, .inl f)) => if (t = 1 ∨ t = 2) ∧ ai_inb i n = true then some (f i.toNatClampNeg) else none
    | _ => none
def wB (y : yS) (a : Nat) (i v : Int32) : Option yS := match yt y a with
  | some (.inl p) => if (p.1 = 1 ∨ p.1 = 2) ∧ ai_inb i p.2 = true then some (sA y a (upd (ya y a) i.toNatClampNeg (vp_nar (ai_ek p.1) v))) else none
  | _ => none
def aE (G : ai_G) (y : yS) (a : Nat) (i : Int32) : Option Nat := match yt y a with
  | some (.inl p) => if (4 ≤ p.1 ∧ p.1 < 7) ∧ ai_inb i p.2 = true then ye y a i.toNatClampNeg else none
  | some (.inr _) => none
  | none => match G.2 a with
    | some (.inl (t, n, .inr (.inr (.inr (.inr f))))) => if (4 ≤ t ∧ t < 7) ∧ ai_inb i n = true then f i.toNatClampNeg else none
    | _ => none
def aL (G : ai_G) (y : yS) (a : Nat) : Option Int32 := match yt y a with
  | some (.inl p) => if p.1 < 7 then some (Int32.ofNat p.2) else none
  | some (.inr _) => none
  | none => match G.2 a with
    | some (.inl (t, n, _)) => if t < 7 then some (Int32.ofNat n) else none
    | _ => none
/-- may this be an element of such an array? -/
def okE (y : yS) (t : Nat) (v : Option Nat) : Bool := match v with
  | none => decide (t = 4) || decide (t = 5)
  | some q => match yt y q with
    | some (.inr c) => decide (c < ai_ncl) && (decide (t = 4) || (decide (t = 5) && decide (c = ai_cKept)))
    | _ => false
def wE (y : yS) (a : Nat) (i : Int32) (v : Option Nat) : Option yS := match yt y a with
  | some (.inl p) => if okE y p.1 v = true ∧ ai_inb i p.2 = true then some (sE y a (va_up (ye y a) i.toNatClampNeg v)) else none
  | _ => none
def cpI (y : yS) (b : Nat) (sp : Int32) (a : Nat) (dp n : Int32) : Option yS := match yt y b, yt y a with
  | some (.inl p0), some (.inl p1) => if ¬ (sp < 0 ∨ dp < 0 ∨ n < 0) ∧ p0.1 = p1.1 ∧ p0.1 < 2 ∧ sp.toNatClampNeg + n.toNatClampNeg ≤ p0.2 ∧ dp.toNatClampNeg + n.toNatClampNeg ≤ p1.2 ∧ (List.range n.toNatClampNeg).all (fun i => ai_fit (ai_ek p0.1) (.int (ya y b (sp.toNatClampNeg + i)))) = true then some (sA y a (va_cpy (ya y b) (ya y a) sp.toNatClampNeg dp.toNatClampNeg n.toNatClampNeg)) else none
  | _, _ => none
def cpE (y : yS) (b : Nat) (sp : Int32) (a : Nat) (dp n : Int32) : Option yS := match yt y b, yt y a with
  | some (.inl p0), some (.inl p1) => if ¬ (sp < 0 ∨ dp < 0 ∨ n < 0) ∧ p0.1 = 4 ∧ p1.1 = 4 ∧ sp.toNatClampNeg + n.toNatClampNeg ≤ p0.2 ∧ dp.toNatClampNeg + n.toNatClampNeg ≤ p1.2 ∧ (List.range n.toNatClampNeg).all (fun i => okE y 4 (ye y b (sp.toNatClampNeg + i))) = true then some (sE y a (va_cpy (ye y b) (ye y a) sp.toNatClampNeg dp.toNatClampNeg n.toNatClampNeg)) else none
  | _, _ => none
def mk (c : Nat) (y : yS) : Option (Nat × yS) := some (yn y, nO y c)
def mka (kd : Nat) (y : yS) (n : Int32) : Option (Nat × yS) := if n < 0 ∨ 65536 < n.toNatClampNeg then none else some (yn y, nA y kd n.toNatClampNeg)
def ckA (y : yS) (a : Nat) : Option Unit := match yt y a with
  | some (.inl p) => if p.1 = 4 then some () else none
  | _ => none
def cst (G : ai_G) (k : Nat) : Option Nat := match G.1 k with
  | .ref a => some a
  | _ => none
def csI (G : ai_G) (k : Nat) : Option Int32 := match G.1 k with
  | .int a => some a
  | _ => none
/-- Strings that were there before -/
def ckO (G : ai_G) (y : yS) (a : Nat) : Option Unit := match yt y a, G.2 a with
  | none, some (.inr (c, _)) => if c = 18 then some () else none
  | _, _ => none
def gOR (k : Nat) (G : ai_G) (y : yS) (a : Nat) : Option Nat := match yt y a, G.2 a with
  | none, some (.inr (c, f)) => if c = 18 then (match f k with | .ref x => some x | _ => none) else none
  | _, _ => none
def gOI (k : Nat) (G : ai_G) (y : yS) (a : Nat) : Option Int32 := match yt y a, G.2 a with
  | none, some (.inr (c, f)) => if c = 18 then (match f k with | .int x => some x | _ => none) else none
  | _, _ => none
def imax (x y : Int32) : Int32 := if x < y then y else x
def imin (x y : Int32) : Int32 := if y < x then y else x
def iabs (x : Int32) : Int32 := if 0 ≤ x then x else 0 - x
/-- what a method's end is to be -/
abbrev Pr (h : ai_H) : Nat → Option ai_R → Prop := fun r run => run = some (.inl (some (.ref r)), h)
abbrev Pj (h : ai_H) : Int64 → Option ai_R → Prop := fun r run => run = some (.inl (some (.long r)), h)
abbrev PyI (h0 : ai_H) : Int32 × yS → Option ai_R → Prop := fun r run => run = some (.inl (some (.int r.1)), yH r.2 h0)
abbrev PyR (h0 : ai_H) : Nat × yS → Option ai_R → Prop := fun r run => run = some (.inl (some (.ref r.1)), yH r.2 h0)
abbrev PyJ (h0 : ai_H) : Int64 × yS → Option ai_R → Prop := fun r run => run = some (.inl (some (.long r.1)), yH r.2 h0)
abbrev PyV (h0 : ai_H) : yS → Option ai_R → Prop := fun r run => run = some (.inl none, yH r h0)
abbrev oR {ρ : Type} (vv : ρ → Option Value) (r : Nat ⊕ ρ) : Option Value ⊕ Nat := Sum.elim (fun q => .inr q) (fun v => .inl (vv v)) r
abbrev PtI (h0 : ai_H) : (Nat ⊕ Int32) × yS → Option ai_R → Prop := fun r run => run = some (oR (fun v => some (.int v)) r.1, yH r.2 h0)
abbrev PtR (h0 : ai_H) : (Nat ⊕ Nat) × yS → Option ai_R → Prop := fun r run => run = some (oR (fun v => some (.ref v)) r.1, yH r.2 h0)
abbrev PtJ (h0 : ai_H) : (Nat ⊕ Int64) × yS → Option ai_R → Prop := fun r run => run = some (oR (fun v => some (.long v)) r.1, yH r.2 h0)
abbrev PtV (h0 : ai_H) : (Nat ⊕ Unit) × yS → Option ai_R → Prop := fun r run => run = some (oR (fun _ => none) r.1, yH r.2 h0)
/-- old cells are not in the heap below -/
def hOld (G : ai_G) (h0 : ai_H) : Prop := ∀ a c, G.2 a = some c → h0.1 a = none
theorem old_rd {G : ai_G} {h0 : ai_H} {y : yS} {a : Nat} {c : ai_C} (hO : hOld G h0) (ht : yt y a = none) (hg : G.2 a = some c) : ai_rd G (yH y h0) a = some c := by
  unfold ai_rd
  rw [yH_n ht, hO a c hg]
  exact hg
/-- deeper is as good -/
theorem go_cm (G : ai_G) {c1 c2 : Nat → List Value → ai_H → Option ai_R} (hc : ∀ k as h r, c1 k as h = some r → c2 k as h = some r) : ∀ (n k pc : Nat) (ls : ai_L) (st : List Value) (h : ai_H) (r : ai_R), ai_go G c1 n k pc ls st h = some r → ai_go G c2 n k pc ls st h = some r := by
  intro n
  induction n with
  | zero => intro k pc ls st h r e; simp [ai_go] at e
  | succ n ih =>
    intro k pc ls st h r e
    simp only [ai_go] at e ⊢
    split at e
    · exact absurd e (by simp)
    · exact ih _ _ _ _ _ _ e
    · split at e
      · exact absurd e (by simp)
      · rename_i hq
        rw [hc _ _ _ _ hq]
        exact ih _ _ _ _ _ _ e
      · rename_i hq
        rw [hc _ _ _ _ hq]
        split at e
        · rename_i ht
          simp only [if_pos ht]
          split at e
          · exact ih _ _ _ _ _ _ e
          · exact e
        · exact absurd e (by simp)
    · exact e
theorem call_succ (G : ai_G) : ∀ (d k : Nat) (as : List Value) (h : ai_H) (r : ai_R), ai_call G d k as h = some r → ai_call G (d + 1) k as h = some r := by
  intro d
  induction d with
  | zero => intro k as h r e; cases e
  | succ d ih =>
    intro k as h r e
    have e : (if (ai_sl as).length ≤ ai_mL k then ai_fix fun n => ai_go G (ai_call G d) n k 0 (ai_en k as) [] h else none) = some r := e
    show (if (ai_sl as).length ≤ ai_mL k then ai_fix fun n => ai_go G (ai_call G (d + 1)) n k 0 (ai_en k as) [] h else none) = some r
    split at e
    · rename_i hl
      rw [if_pos hl]
      obtain ⟨n, hn⟩ := ai_fix_get e
      exact ai_fix_some (fun n m r => ai_go_mono G _ n m k 0 (ai_en k as) [] h r) (go_cm G ih n _ _ _ _ _ _ hn)
    · cases e
theorem acm {G : ai_G} {d k : Nat} {as : List Value} {h : ai_H} {r : ai_R} (e : ai_call G d k as h = some r) : ∀ n, ai_call G (d + n) k as h = some r := by
  intro n
  induction n with
  | zero => exact e
  | succ n ih => exact call_succ G _ _ _ _ _ ih
section TY
variable {α : Type} {G : ai_G} {d k pc : Nat} {P : α → Option ai_R → Prop} {z9 : Option α} {L : ai_L} {st : List Value} {y : yS} {h0 h : ai_H}
theorem tq_aloadV_n {j : Fin 4} {x : Option Nat} (hd : decode (ai_mC k) pc = .ok (.aload_n j, 1)) (hi : L[j.val]? = some (some (va_rf x))) (kk : Tj G d k P z9 (pc + 1) L (va_rf x :: st) h) : Tj G d k P z9 pc L st h := by
  cases x with
  | none => exact tx_ex hd rfl (by simp only [ai_ex, ai_lda, hi, va_rf]; rfl) kk
  | some q => exact tx_ex hd rfl (by simp only [ai_ex, ai_lda, hi, va_rf]; rfl) kk
theorem tq_methE {args : List Value} (hl : (ai_sl args).length ≤ ai_mL k) (hE : ai_en k args = L) (kk : Tj G d k P z9 0 L [] h) : ∀ a, z9 = some a → P a (ai_call G (d + 1) k args h) := by
  subst hE
  exact tq_meth hl kk
/-- a byte, a char is answered -/
theorem tq_iretG {ty : FieldType} {v : Int32} {z : Option α} {a : α} (hd : decode (ai_mC k) pc = .ok (.ireturn, 1)) (hr : ai_mR k = some ty) (hz : z = if ai_fit ty (.int v) = true then some a else none) (hq : P a (some (.inl (some (.int v)), h))) : Tj G d k P z pc L [.int v] h := by
  subst hz
  refine tq_gd (fun c => tx_end hd rfl ?_ (fun b hb => by cases hb; exact hq))
  have : ai_rok (ai_mR k) (.int v) = true := by rw [hr]; exact c
  simp only [ai_ex, this, if_true]
  rfl
theorem tq_imax {i : Nat} {u v : Int32} (hd : decode (ai_mC k) pc = .ok (.invokestatic i, 3)) (hc : ai_cpI (ai_mO k) i = false) (hI : ai_mxI (ai_mO k) i = true) (hw : ai_wt st ≤ 8) (kk : Tj G d k P z9 (pc + 3) L (.int (imax u v) :: st) h) : Tj G d k P z9 pc L (.int v :: .int u :: st) h := tq_max hd hc hI hw kk
theorem tq_imin {i : Nat} {u v : Int32} (hd : decode (ai_mC k) pc = .ok (.invokestatic i, 3)) (hc : ai_cpI (ai_mO k) i = false) (hx : ai_mxI (ai_mO k) i = false) (hI : ai_mnI (ai_mO k) i = true) (hw : ai_wt st ≤ 8) (kk : Tj G d k P z9 (pc + 3) L (.int (imin u v) :: st) h) : Tj G d k P z9 pc L (.int v :: .int u :: st) h := tq_min hd hc hx hI hw kk
theorem tq_iabs {i : Nat} {u : Int32} (hd : decode (ai_mC k) pc = .ok (.invokestatic i, 3)) (hc : ai_cpI (ai_mO k) i = false) (hx : ai_mxI (ai_mO k) i = false) (hn : ai_mnI (ai_mO k) i = false) (hI : ai_abI (ai_mO k) i = true) (hw : ai_wt st ≤ 8) (kk : Tj G d k P z9 (pc + 3) L (.int (iabs u) :: st) h) : Tj G d k P z9 pc L (.int u :: st) h := tq_abs hd hc hx hn hI hw kk
theorem fv_i {ty : FieldType} {i : Int32} {r : Option Nat} {j : Int64} (h : isIt ty = true) : fv ty i r j = .int i := by revert h; unfold isIt fv; cases ty <;> simp
theorem fv_r {ty : FieldType} {i : Int32} {r : Option Nat} {j : Int64} (h : isRt ty = true) : fv ty i r j = va_rf r := by revert h; unfold isRt fv; cases ty <;> simp
theorem fit_r {ty : FieldType} {v : Option Nat} (h : isRt ty = true) : ai_fit ty (va_rf v) = true := by revert h; unfold isRt; cases ty <;> cases v <;> simp [ai_fit, va_rf]
theorem ty_gI {i c k9 a : Nat} {r : Int32 → Option α} (hd : decode (ai_mC k) pc = .ok (.getfield i, 3)) (hf : ai_fT (ai_mO k) i c = some k9) (ht : isIt (ai_ty c k9) = true) (kk : ∀ v, Tj G d k P (r v) (pc + 3) L (.int v :: st) (yH y h0)) : Tj G d k P ((gI c k9 y a).bind r) pc L (.ref a :: st) (yH y h0) := by
  refine tx_bind (fun v hv => ?_)
  unfold gI at hv
  split at hv
  · rename_i e
    have e2 : yO y a c k9 = .int v := by
      unfold yO
      rw [fv_i ht]; cases hv; rfl
    exact tx_ex hd rfl (by simp only [ai_ex, ai_getf, rd_new (yH_o e), hf, e2]; rfl) (kk v)
  · cases hv
theorem ty_gR {i c k9 a : Nat} {r : Nat → Option α} (hd : decode (ai_mC k) pc = .ok (.getfield i, 3)) (hf : ai_fT (ai_mO k) i c = some k9) (ht : isRt (ai_ty c k9) = true) (kk : ∀ v, Tj G d k P (r v) (pc + 3) L (.ref v :: st) (yH y h0)) : Tj G d k P ((gR c k9 y a).bind r) pc L (.ref a :: st) (yH y h0) := by
  refine tx_bind (fun v hv => ?_)
  unfold gR at hv
  split at hv
  · rename_i e
    have e2 : yO y a c k9 = .ref v := by
      unfold yO
      rw [fv_r ht, show yr y a k9 = some v from hv]; rfl
    exact tx_ex hd rfl (by simp only [ai_ex, ai_getf, rd_new (yH_o e), hf, e2]; rfl) (kk v)
  · cases hv
theorem ty_gN {i c k9 a : Nat} {r : Option Nat → Option α} (hd : decode (ai_mC k) pc = .ok (.getfield i, 3)) (hf : ai_fT (ai_mO k) i c = some k9) (ht : isRt (ai_ty c k9) = true) (kk : ∀ v, Tj G d k P (r v) (pc + 3) L (va_rf v :: st) (yH y h0)) : Tj G d k P ((gN c k9 y a).bind r) pc L (.ref a :: st) (yH y h0) := by
  refine tx_bind (fun v hv => ?_)
  unfold gN at hv
  split at hv
  · rename_i e
    have e2 : yO y a c k9 = va_rf v := by
      unfold yO
      rw [fv_r ht]; cases hv; rfl
    exact tx_ex hd rfl (by simp only [ai_ex, ai_getf, rd_new (yH_o e), hf, e2]; rfl) (kk v)
  · cases hv
theorem ty_gJ {i c k9 a : Nat} {r : Int64 → Option α} (hd : decode (ai_mC k) pc = .ok (.getfield i, 3)) (hf : ai_fT (ai_mO k) i c = some k9) (ht : ai_ty c k9 = .long) (kk : ∀ v, Tj G d k P (r v) (pc + 3) L (.long v :: st) (yH y h0)) : Tj G d k P ((gJ c k9 y a).bind r) pc L (.ref a :: st) (yH y h0) := by
  refine tx_bind (fun v hv => ?_)
  unfold gJ at hv
  split at hv
  · rename_i e
    have e2 : yO y a c k9 = .long v := by
      unfold yO
      rw [ht]; cases hv; rfl
    exact tx_ex hd rfl (by simp only [ai_ex, ai_getf, rd_new (yH_o e), hf, e2]; rfl) (kk v)
  · cases hv
theorem ty_wI {i c k9 a : Nat} {v : Int32} {r : yS → Option α} (hd : decode (ai_mC k) pc = .ok (.putfield i, 3)) (hf : ai_fT (ai_mO k) i c = some k9) (ht : ai_ty c k9 = .int) (hn : (!(ai_fin c k9) || (ai_mI k && decide ((ai_T c k9).1 = ai_cn (ai_mO k)))) = true) (kk : ∀ s, Tj G d k P (r s) (pc + 3) L st (yH s h0)) : Tj G d k P ((wI c k9 y a v).bind r) pc L (.int v :: .ref a :: st) (yH y h0) := by
  refine tx_bind (fun s hs => ?_)
  unfold wI at hs
  split at hs
  · rename_i e0
    have e := e0
    cases hs
    have f : ai_fit (ai_ty c k9) (.int v) = true := by rw [ht]; rfl
    exact tx_ex hd rfl (by simp only [ai_ex, ai_putf, yH_o e, hf, f, hn, Bool.and_self, if_true, yH_sF e (k := k9) (v := v) (by rw [ht]; rfl)]; rfl) (kk _)
  · cases hs
theorem ty_wZ {i c k9 a : Nat} {v : Int32} {r : yS → Option α} (hd : decode (ai_mC k) pc = .ok (.putfield i, 3)) (hf : ai_fT (ai_mO k) i c = some k9) (ht : ai_ty c k9 = .boolean) (hn : (!(ai_fin c k9) || (ai_mI k && decide ((ai_T c k9).1 = ai_cn (ai_mO k)))) = true) (kk : ∀ s, Tj G d k P (r s) (pc + 3) L st (yH s h0)) : Tj G d k P ((wZ c k9 y a v).bind r) pc L (.int v :: .ref a :: st) (yH y h0) := by
  refine tx_bind (fun s hs => ?_)
  unfold wZ at hs
  split at hs
  · rename_i e0
    obtain ⟨e, hv⟩ := e0
    cases hs
    have f : ai_fit (ai_ty c k9) (.int v) = true := by rw [ht]; simp [ai_fit, hv]
    exact tx_ex hd rfl (by simp only [ai_ex, ai_putf, yH_o e, hf, f, hn, Bool.and_self, if_true, yH_sF e (k := k9) (v := v) (by rw [ht]; rfl)]; rfl) (kk _)
  · cases hs
theorem ty_wR {i c k9 a : Nat} {v : Option Nat} {r : yS → Option α} (hd : decode (ai_mC k) pc = .ok (.putfield i, 3)) (hf : ai_fT (ai_mO k) i c = some k9) (ht : isRt (ai_ty c k9) = true) (hn : (!(ai_fin c k9) || (ai_mI k && decide ((ai_T c k9).1 = ai_cn (ai_mO k)))) = true) (kk : ∀ s, Tj G d k P (r s) (pc + 3) L st (yH s h0)) : Tj G d k P ((wR c k9 y a v).bind r) pc L (va_rf v :: .ref a :: st) (yH y h0) := by
  refine tx_bind (fun s hs => ?_)
  unfold wR at hs
  split at hs
  · rename_i e0
    have e := e0
    cases hs
    have f : ai_fit (ai_ty c k9) (va_rf v) = true := by exact fit_r ht
    exact tx_ex hd rfl (by simp only [ai_ex, ai_putf, yH_o e, hf, f, hn, Bool.and_self, if_true, yH_sR e (k := k9) (v := v) ht]; rfl) (kk _)
  · cases hs
theorem ty_wJ {i c k9 a : Nat} {v : Int64} {r : yS → Option α} (hd : decode (ai_mC k) pc = .ok (.putfield i, 3)) (hf : ai_fT (ai_mO k) i c = some k9) (ht : ai_ty c k9 = .long) (hn : (!(ai_fin c k9) || (ai_mI k && decide ((ai_T c k9).1 = ai_cn (ai_mO k)))) = true) (kk : ∀ s, Tj G d k P (r s) (pc + 3) L st (yH s h0)) : Tj G d k P ((wJ c k9 y a v).bind r) pc L (.long v :: .ref a :: st) (yH y h0) := by
  refine tx_bind (fun s hs => ?_)
  unfold wJ at hs
  split at hs
  · rename_i e0
    have e := e0
    cases hs
    have f : ai_fit (ai_ty c k9) (.long v) = true := by rw [ht]; rfl
    exact tx_ex hd rfl (by simp only [ai_ex, ai_putf, yH_o e, hf, f, hn, Bool.and_self, if_true, yH_sJ e (k := k9) (v := v) ht]; rfl) (kk _)
  · cases hs
theorem ty_wRr {i c k9 a v : Nat} {r : yS → Option α} (hd : decode (ai_mC k) pc = .ok (.putfield i, 3)) (hf : ai_fT (ai_mO k) i c = some k9) (ht : isRt (ai_ty c k9) = true) (hn : (!(ai_fin c k9) || (ai_mI k && decide ((ai_T c k9).1 = ai_cn (ai_mO k)))) = true) (kk : ∀ s, Tj G d k P (r s) (pc + 3) L st (yH s h0)) : Tj G d k P ((wR c k9 y a (some v)).bind r) pc L (.ref v :: .ref a :: st) (yH y h0) := ty_wR (v := some v) hd hf ht hn kk
theorem ty_wR0 {i c k9 a : Nat} {r : yS → Option α} (hd : decode (ai_mC k) pc = .ok (.putfield i, 3)) (hf : ai_fT (ai_mO k) i c = some k9) (ht : isRt (ai_ty c k9) = true) (hn : (!(ai_fin c k9) || (ai_mI k && decide ((ai_T c k9).1 = ai_cn (ai_mO k)))) = true) (kk : ∀ s, Tj G d k P (r s) (pc + 3) L st (yH s h0)) : Tj G d k P ((wR c k9 y a none).bind r) pc L (.null :: .ref a :: st) (yH y h0) := ty_wR (v := none) hd hf ht hn kk
theorem ty_iald {a : Nat} {i : Int32} {r : Int32 → Option α} (hd : decode (ai_mC k) pc = .ok (.iaload, 1)) (kk : ∀ v, Tj G d k P (r v) (pc + 1) L (.int v :: st) (yH y h0)) : Tj G d k P ((aI y a i).bind r) pc L (.int i :: .ref a :: st) (yH y h0) := by
  refine tx_bind (fun v hv => ?_)
  unfold aI at hv
  split at hv
  · rename_i p e
    split at hv
    · rename_i c
      cases hv
      refine tx_ex hd rfl ?_ (kk _)
      simp only [ai_ex, ai_aldi, rd_new (yH_a e), yA, c.1, Nat.zero_lt_succ, if_true, decide_true, c.2, Bool.and_self]
      rfl
    · cases hv
  · cases hv
theorem ty_iast {a : Nat} {i v : Int32} {r : yS → Option α} (hd : decode (ai_mC k) pc = .ok (.iastore, 1)) (kk : ∀ s, Tj G d k P (r s) (pc + 1) L st (yH s h0)) : Tj G d k P ((wA y a i v).bind r) pc L (.int v :: .int i :: .ref a :: st) (yH y h0) := by
  refine tx_bind (fun s hs => ?_)
  unfold wA at hs
  split at hs
  · rename_i p e
    obtain ⟨t, n⟩ := p
    split at hs
    · rename_i c
      obtain ⟨rfl, c2⟩ : t = 0 ∧ ai_inb i n = true := c
      cases hs
      have e2 := yH_sA (h0 := h0) (f := upd (ya y a) i.toNatClampNeg v) e (Nat.zero_lt_succ 3)
      refine tx_ex hd rfl ?_ (kk _)
      have e3 : (yH y h0).1 a = some (.inl (0, n, .inl (ya y a))) := yH_a e
      have hnar : vp_nar (ai_ek 0) v = v := rfl
      simp only [ai_ex, ai_asti, e3, decide_true, c2, Bool.and_self, if_true, hnar, e2]
      rfl
    · cases hs
  · cases hs
theorem ty_bald {a : Nat} {i : Int32} {r : Int32 → Option α} (hO : hOld G h0) (hd : decode (ai_mC k) pc = .ok (.baload, 1)) (kk : ∀ v, Tj G d k P (r v) (pc + 1) L (.int v :: st) (yH y h0)) : Tj G d k P ((aB G y a i).bind r) pc L (.int i :: .ref a :: st) (yH y h0) := by
  refine tx_bind (fun v hv => ?_)
  unfold aB at hv
  split at hv
  · rename_i p e
    obtain ⟨t, n⟩ := p
    split at hv
    · rename_i c
      obtain ⟨c1, c2⟩ : (t = 1 ∨ t = 2) ∧ ai_inb i n = true := c
      cases hv
      have hb : (decide (t = 1) || decide (t = 2)) = true := by simpa using c1
      have e3 : (yH y h0).1 a = some (.inl (t, n, .inl (ya y a))) := by
        rw [yH_a e]
        unfold yA
        rw [if_pos (by show t < 4; omega)]
      refine tx_ex hd rfl ?_ (kk _)
      simp only [ai_ex, ai_aldi, rd_new e3, hb, c2, Bool.and_self, if_true]
      rfl
    · cases hv
  · cases hv
  · rename_i e
    split at hv
    · rename_i t n f g
      split at hv
      · rename_i c
        cases hv
        have hb : (decide (t = 1) || decide (t = 2)) = true := by simpa using c.1
        refine tx_ex hd rfl ?_ (kk _)
        simp only [ai_ex, ai_aldi, old_rd hO e g, hb, c.2, Bool.and_self, if_true]
        rfl
      · cases hv
    · cases hv
theorem ty_bast {a : Nat} {i v : Int32} {r : yS → Option α} (hd : decode (ai_mC k) pc = .ok (.bastore, 1)) (kk : ∀ s, Tj G d k P (r s) (pc + 1) L st (yH s h0)) : Tj G d k P ((wB y a i v).bind r) pc L (.int v :: .int i :: .ref a :: st) (yH y h0) := by
  refine tx_bind (fun s hs => ?_)
  unfold wB at hs
  split at hs
  · rename_i p e
    obtain ⟨t, n⟩ := p
    split at hs
    · rename_i c
      obtain ⟨c1, c2⟩ : (t = 1 ∨ t = 2) ∧ ai_inb i n = true := c
      cases hs
      have hb : (decide (t = 1) || decide (t = 2)) = true := by simpa using c1
      have e2 := yH_sA (h0 := h0) (f := upd (ya y a) i.toNatClampNeg (vp_nar (ai_ek t) v)) e (by show t < 4; omega)
      have e3 : (yH y h0).1 a = some (.inl (t, n, .inl (ya y a))) := by
        rw [yH_a e]
        unfold yA
        rw [if_pos (by show t < 4; omega)]
      refine tx_ex hd rfl ?_ (kk _)
      simp only [ai_ex, ai_asti, e3, hb, c2, Bool.and_self, if_true]
      rw [show ai_set (yH y h0) a (.inl (t, n, .inl (upd (ya y a) i.toNatClampNeg (vp_nar (ai_ek t) v)))) = _ from e2]
      rfl
    · cases hs
  · cases hs
theorem ty_aald {a : Nat} {i : Int32} {r : Nat → Option α} (hO : hOld G h0) (hd : decode (ai_mC k) pc = .ok (.aaload, 1)) (kk : ∀ v, Tj G d k P (r v) (pc + 1) L (.ref v :: st) (yH y h0)) : Tj G d k P ((aE G y a i).bind r) pc L (.int i :: .ref a :: st) (yH y h0) := by
  refine tx_bind (fun v hv => ?_)
  unfold aE at hv
  split at hv
  · rename_i p e
    obtain ⟨t, n⟩ := p
    split at hv
    · rename_i c
      obtain ⟨c1, c2⟩ : (4 ≤ t ∧ t < 7) ∧ ai_inb i n = true := c
      have hb : (decide (4 ≤ t) && decide (t < 7)) = true := by simpa using c1
      have e3 : (yH y h0).1 a = some (.inl (t, n, .inr (.inr (.inr (.inr (ye y a)))))) := by
        rw [yH_a e]
        unfold yA
        rw [if_neg (by show ¬ t < 4; omega)]
      refine tx_ex hd rfl ?_ (kk v)
      simp only [ai_ex, ai_alda, rd_new e3, hb, c2, Bool.and_self, if_true]
      rw [hv]
      rfl
    · cases hv
  · cases hv
  · rename_i e
    split at hv
    · rename_i t n f g
      split at hv
      · rename_i c
        have hb : (decide (4 ≤ t) && decide (t < 7)) = true := by simpa using c.1
        refine tx_ex hd rfl ?_ (kk v)
        simp only [ai_ex, ai_alda, old_rd hO e g, hb, c.2, Bool.and_self, if_true]
        rw [hv]
        rfl
      · cases hv
    · cases hv
theorem ty_alen {a : Nat} {r : Int32 → Option α} (hO : hOld G h0) (hd : decode (ai_mC k) pc = .ok (.arraylength, 1)) (kk : ∀ v, Tj G d k P (r v) (pc + 1) L (.int v :: st) (yH y h0)) : Tj G d k P ((aL G y a).bind r) pc L (.ref a :: st) (yH y h0) := by
  refine tx_bind (fun v hv => ?_)
  unfold aL at hv
  split at hv
  · rename_i p e
    split at hv
    · rename_i c
      cases hv
      refine tx_ex hd rfl ?_ (kk _)
      simp only [ai_ex, ai_alen, rd_new (yH_a e), yA, c, if_true]
      rfl
    · cases hv
  · cases hv
  · rename_i e
    split at hv
    · rename_i t n f g
      split at hv
      · rename_i c
        cases hv
        refine tx_ex hd rfl ?_ (kk _)
        simp only [ai_ex, ai_alen, old_rd hO e g, c, if_true]
        rfl
      · cases hv
    · cases hv
theorem okE_elok {t q : Nat} (h : okE y t (some q) = true) : ai_elok (yH y h0) t q = true := by
  unfold okE at h
  simp only at h
  split at h
  · rename_i c e
    unfold ai_elok
    rw [yH_o e]
    exact h
  · cases h
theorem okE_t {t : Nat} {v : Option Nat} (h : okE y t v = true) : t = 4 ∨ t = 5 := by
  unfold okE at h
  split at h
  · simpa using h
  · split at h
    · simp only [Bool.and_eq_true, Bool.or_eq_true, decide_eq_true_eq] at h
      omega
    · cases h
theorem ty_aast {a : Nat} {i : Int32} {v : Option Nat} {r : yS → Option α} (hd : decode (ai_mC k) pc = .ok (.aastore, 1)) (kk : ∀ s, Tj G d k P (r s) (pc + 1) L st (yH s h0)) : Tj G d k P ((wE y a i v).bind r) pc L (va_rf v :: .int i :: .ref a :: st) (yH y h0) := by
  refine tx_bind (fun s hs => ?_)
  unfold wE at hs
  split at hs
  · rename_i p e
    obtain ⟨t, n⟩ := p
    split at hs
    · rename_i c
      obtain ⟨c1, c2⟩ : okE y t v = true ∧ ai_inb i n = true := c
      cases hs
      have ht := okE_t c1
      have e2 := yH_sE (h0 := h0) (f := va_up (ye y a) i.toNatClampNeg v) e (by show 4 ≤ t; omega)
      have e3 : (yH y h0).1 a = some (.inl (t, n, .inr (.inr (.inr (.inr (ye y a)))))) := by
        rw [yH_a e]
        unfold yA
        rw [if_neg (by show ¬ t < 4; omega)]
      refine tx_ex hd rfl ?_ (kk _)
      cases v with
      | none =>
        have hb : (decide (t = 4) || decide (t = 5)) = true := by simpa using ht
        simp only [va_rf, ai_ex, ai_asta, e3, hb, c2, Bool.and_self, if_true]
        rw [show ai_set (yH y h0) a (.inl (t, n, .inr (.inr (.inr (.inr (va_up (ye y a) i.toNatClampNeg none)))))) = _ from e2]
        rfl
      | some q =>
        simp only [va_rf, ai_ex, ai_asta, e3, okE_elok c1, c2, Bool.and_self, if_true]
        rw [show ai_set (yH y h0) a (.inl (t, n, .inr (.inr (.inr (.inr (va_up (ye y a) i.toNatClampNeg (some q))))))) = _ from e2]
        rfl
    · cases hs
  · cases hs
theorem ty_aastR {a v : Nat} {i : Int32} {r : yS → Option α} (hd : decode (ai_mC k) pc = .ok (.aastore, 1)) (kk : ∀ s, Tj G d k P (r s) (pc + 1) L st (yH s h0)) : Tj G d k P ((wE y a i (some v)).bind r) pc L (.ref v :: .int i :: .ref a :: st) (yH y h0) := ty_aast (v := some v) hd kk
theorem ty_aast0 {a : Nat} {i : Int32} {r : yS → Option α} (hd : decode (ai_mC k) pc = .ok (.aastore, 1)) (kk : ∀ s, Tj G d k P (r s) (pc + 1) L st (yH s h0)) : Tj G d k P ((wE y a i none).bind r) pc L (.null :: .int i :: .ref a :: st) (yH y h0) := ty_aast (v := none) hd kk
theorem ty_copyI {a b i : Nat} {sp dp n : Int32} {r : yS → Option α} (hd : decode (ai_mC k) pc = .ok (.invokestatic i, 3)) (hI : ai_cpI (ai_mO k) i = true) (hw : ai_wt st ≤ 8) (kk : ∀ s, Tj G d k P (r s) (pc + 3) L st (yH s h0)) : Tj G d k P ((cpI y b sp a dp n).bind r) pc L (.int n :: .int dp :: .ref a :: .int sp :: .ref b :: st) (yH y h0) := by
  refine tx_bind (fun s hs => ?_)
  unfold cpI at hs
  split at hs
  · rename_i p0 p1 e0 e1
    obtain ⟨t0, n0⟩ := p0
    obtain ⟨t1, n1⟩ := p1
    split at hs
    · rename_i c
      obtain ⟨c1, c2, c3, c4, c5, c6⟩ := c
      simp only at c2 c3 c4 c5 c6
      subst c2
      cases hs
      have e2 := yH_sA (h0 := h0) (f := va_cpy (ya y b) (ya y a) sp.toNatClampNeg dp.toNatClampNeg n.toNatClampNeg) e1 (by show t0 < 4; omega)
      have e3 : (yH y h0).1 a = some (.inl (t0, n1, .inl (ya y a))) := by
        rw [yH_a e1]
        unfold yA
        rw [if_pos (by show t0 < 4; omega)]
      have e4 : (yH y h0).1 b = some (.inl (t0, n0, .inl (ya y b))) := by
        rw [yH_a e0]
        unfold yA
        rw [if_pos (by show t0 < 4; omega)]
      exact tq_copyi hd hI (by rintro (z | z | z | z); exact c1 (.inl z); exact c1 (.inr (.inl z)); exact c1 (.inr (.inr z)); omega) e4 e3 (by omega) c4 c5 c6 e2 (kk _)
    · cases hs
  · cases hs
theorem ty_copyE {a b i : Nat} {sp dp n : Int32} {r : yS → Option α} (hd : decode (ai_mC k) pc = .ok (.invokestatic i, 3)) (hI : ai_cpI (ai_mO k) i = true) (hw : ai_wt st ≤ 8) (kk : ∀ s, Tj G d k P (r s) (pc + 3) L st (yH s h0)) : Tj G d k P ((cpE y b sp a dp n).bind r) pc L (.int n :: .int dp :: .ref a :: .int sp :: .ref b :: st) (yH y h0) := by
  refine tx_bind (fun s hs => ?_)
  unfold cpE at hs
  split at hs
  · rename_i p0 p1 e0 e1
    obtain ⟨t0, n0⟩ := p0
    obtain ⟨t1, n1⟩ := p1
    split at hs
    · rename_i c
      obtain ⟨c1, c2, c3, c4, c5, c6⟩ := c
      simp only at c2 c3 c4 c5 c6
      subst c2
      subst c3
      cases hs
      have e2 := yH_sE (h0 := h0) (f := va_cpy (ye y b) (ye y a) sp.toNatClampNeg dp.toNatClampNeg n.toNatClampNeg) e1 (by show 4 ≤ 4; omega)
      have e3 : (yH y h0).1 a = some (.inl (4, n1, .inr (.inr (.inr (.inr (ye y a)))))) := yH_a e1
      have e4 : (yH y h0).1 b = some (.inl (4, n0, .inr (.inr (.inr (.inr (ye y b)))))) := yH_a e0
      refine tq_copya hd hI (by rintro (z | z | z | z); exact c1 (.inl z); exact c1 (.inr (.inl z)); exact c1 (.inr (.inr z)); omega) e4 e3 c4 c5 ?_ e2 (kk _)
      unfold ai_cpok
      rw [List.all_eq_true] at c6 ⊢
      intro j hj
      have := c6 j hj
      split
      · rfl
      · rename_i q hq
        rw [hq] at this
        exact okE_elok this
    · cases hs
  · cases hs
theorem ty_new {i c : Nat} {r : Nat × yS → Option α} (hd : decode (ai_mC k) pc = .ok (.new i, 3)) (hc : ai_nT (ai_mO k) i = some c) (kk : ∀ s, Tj G d k P (r s) (pc + 3) L (.ref s.1 :: st) (yH s.2 h0)) : Tj G d k P ((mk c y).bind r) pc L st (yH y h0) :=
  tq_new (a := yn y) hd hc rfl yH_nO (kk (yn y, nO y c))
theorem ty_newI {n : Int32} {r : Nat × yS → Option α} (hd : decode (ai_mC k) pc = .ok (.newarray .int, 2)) (kk : ∀ s, Tj G d k P (r s) (pc + 2) L (.ref s.1 :: st) (yH s.2 h0)) : Tj G d k P ((mka 0 y n).bind r) pc L (.int n :: st) (yH y h0) := by
  refine tx_bind (fun s hs => ?_)
  unfold mka at hs
  split at hs
  · cases hs
  · rename_i c
    cases hs
    exact tq_newI (a := yn y) hd c rfl (yH_nAi (by omega)) (kk (yn y, nA y 0 n.toNatClampNeg))
theorem ty_newZ {n : Int32} {r : Nat × yS → Option α} (hd : decode (ai_mC k) pc = .ok (.newarray .boolean, 2)) (kk : ∀ s, Tj G d k P (r s) (pc + 2) L (.ref s.1 :: st) (yH s.2 h0)) : Tj G d k P ((mka 1 y n).bind r) pc L (.int n :: st) (yH y h0) := by
  refine tx_bind (fun s hs => ?_)
  unfold mka at hs
  split at hs
  · cases hs
  · rename_i c
    cases hs
    exact tq_newZ (a := yn y) hd c rfl (yH_nAi (by omega)) (kk (yn y, nA y 1 n.toNatClampNeg))
theorem ty_newB {n : Int32} {r : Nat × yS → Option α} (hd : decode (ai_mC k) pc = .ok (.newarray .byte, 2)) (kk : ∀ s, Tj G d k P (r s) (pc + 2) L (.ref s.1 :: st) (yH s.2 h0)) : Tj G d k P ((mka 2 y n).bind r) pc L (.int n :: st) (yH y h0) := by
  refine tx_bind (fun s hs => ?_)
  unfold mka at hs
  split at hs
  · cases hs
  · rename_i c
    cases hs
    exact tq_newB (a := yn y) hd c rfl (yH_nAi (by omega)) (kk (yn y, nA y 2 n.toNatClampNeg))
theorem ty_anew {n : Int32} {i t : Nat} {r : Nat × yS → Option α} (hd : decode (ai_mC k) pc = .ok (.anewarray i, 3)) (hc : ai_aT (ai_mO k) i = some t) (h4 : 4 ≤ t) (kk : ∀ s, Tj G d k P (r s) (pc + 3) L (.ref s.1 :: st) (yH s.2 h0)) : Tj G d k P ((mka t y n).bind r) pc L (.int n :: st) (yH y h0) := by
  refine tx_bind (fun s hs => ?_)
  unfold mka at hs
  split at hs
  · cases hs
  · rename_i c
    cases hs
    exact tq_anew (a := yn y) hd hc c rfl (yH_nAe h4) (kk (yn y, nA y t n.toNatClampNeg))
theorem ck_t {c a : Nat} {b : Unit} (h : ck c y a = some b) : yt y a = some (.inr c) := by
  unfold ck at h
  split at h
  · assumption
  · cases h
theorem ty_cast {i c a : Nat} {r : Unit → Option α} (hd : decode (ai_mC k) pc = .ok (.checkcast i, 3)) (hk : ai_kT (ai_mO k) i c = true) (kk : ∀ u, Tj G d k P (r u) (pc + 3) L (.ref a :: st) (yH y h0)) : Tj G d k P ((ck c y a).bind r) pc L (.ref a :: st) (yH y h0) :=
  tx_bind (fun u hu => tq_cast hd (yH_o (ck_t hu)) hk (kk u))
theorem ty_wrongI {i a : Nat} {r : Unit → Option α} (hd : decode (ai_mC k) pc = .ok (.invokespecial i, 3)) (ho : ai_oI (ai_mO k) i = false) (hI : ai_wI (ai_mO k) i = true) (hw : ai_wt st ≤ 8) (kk : ∀ u, Tj G d k P (r u) (pc + 3) L st (yH y h0)) : Tj G d k P ((ck 3 y a).bind r) pc L (.ref a :: st) (yH y h0) :=
  tx_bind (fun u hu => tq_wrongI hd ho hI (yH_o (ck_t hu)) hw (kk u))
theorem ty_getClass {i a : Nat} {r : Nat → Option α} (hd : decode (ai_mC k) pc = .ok (.invokevirtual i, 3)) (hI : ai_gcI (ai_mO k) i = true) (hw : ai_wt st ≤ 8) (kk : ∀ v, Tj G d k P (r v) (pc + 3) L (.ref v :: st) (yH y h0)) : Tj G d k P ((ckA y a).bind fun _ => (cst G 40).bind r) pc L (.ref a :: st) (yH y h0) := by
  refine tx_bind (fun u hu => tx_bind (fun v hv => ?_))
  have hm : G.1 40 = .ref v := by
    unfold cst at hv
    split at hv
    · cases hv; assumption
    · cases hv
  unfold ckA at hu
  split at hu
  · rename_i p e
    obtain ⟨t, n⟩ := p
    split at hu
    · rename_i c
      obtain rfl : t = 4 := c
      refine tq_getClass hd hI (yH_a e) hw ?_
      rw [show G.1 ai_kMirror = .ref v from hm]
      exact kk v
    · cases hu
  · cases hu
theorem ty_cst {k9 : Nat} {r : Nat → Option α} {i : Instr} {len : Nat} (hd : decode (ai_mC k) pc = .ok (i, len)) (hl : ai_lok i len = true) (he : ∀ v, G.1 k9 = .ref v → ai_ex G k i pc L st (yH y h0) = some (.inl (pc + len, L, .ref v :: st, yH y h0))) (kk : ∀ v, Tj G d k P (r v) (pc + len) L (.ref v :: st) (yH y h0)) : Tj G d k P ((cst G k9).bind r) pc L st (yH y h0) := by
  refine tx_bind (fun v hv => ?_)
  have hm : G.1 k9 = .ref v := by
    unfold cst at hv
    split at hv
    · cases hv; assumption
    · cases hv
  exact tx_ex hd hl (he v hm) (kk v)
theorem ty_ldc {i k9 : Nat} {r : Nat → Option α} (hd : decode (ai_mC k) pc = .ok (.ldc i, 2)) (hv : ai_lT G (ai_mO k) i = some (G.1 k9)) (kk : ∀ v, Tj G d k P (r v) (pc + 2) L (.ref v :: st) (yH y h0)) : Tj G d k P ((cst G k9).bind r) pc L st (yH y h0) :=
  ty_cst hd rfl (fun v e => by simp only [ai_ex, hv, ai_pushv, e]; rfl) kk
theorem ty_ldc_w {i k9 : Nat} {r : Nat → Option α} (hd : decode (ai_mC k) pc = .ok (.ldc_w i, 3)) (hm : ai_mrI (ai_mO k) i = false) (hv : ai_lT G (ai_mO k) i = some (G.1 k9)) (kk : ∀ v, Tj G d k P (r v) (pc + 3) L (.ref v :: st) (yH y h0)) : Tj G d k P ((cst G k9).bind r) pc L st (yH y h0) :=
  ty_cst hd rfl (fun v e => by simp only [ai_ex, hv, hm, Bool.false_eq_true, if_false, ai_pushv, e]; rfl) kk
theorem ty_gets {i k9 : Nat} {r : Nat → Option α} (hd : decode (ai_mC k) pc = .ok (.getstatic i, 3)) (hv : ai_gT G (ai_mO k) i = some (G.1 k9)) (kk : ∀ v, Tj G d k P (r v) (pc + 3) L (.ref v :: st) (yH y h0)) : Tj G d k P ((cst G k9).bind r) pc L st (yH y h0) :=
  ty_cst hd rfl (fun v e => by simp only [ai_ex, hv, ai_pushv, e]; rfl) kk
theorem ty_getsI {i k9 : Nat} {r : Int32 → Option α} (hd : decode (ai_mC k) pc = .ok (.getstatic i, 3)) (hv : ai_gT G (ai_mO k) i = some (G.1 k9)) (kk : ∀ v, Tj G d k P (r v) (pc + 3) L (.int v :: st) (yH y h0)) : Tj G d k P ((csI G k9).bind r) pc L st (yH y h0) := by
  refine tx_bind (fun v h1 => ?_)
  have hm : G.1 k9 = .int v := by
    unfold csI at h1
    split at h1
    · cases h1; assumption
    · cases h1
  exact tx_ex hd rfl (by simp only [ai_ex, hv, ai_pushv, hm]; rfl) (kk v)
theorem ty_gOR {i k9 a : Nat} {r : Nat → Option α} (hO : hOld G h0) (hd : decode (ai_mC k) pc = .ok (.getfield i, 3)) (hf : ai_fT (ai_mO k) i 18 = some k9) (kk : ∀ v, Tj G d k P (r v) (pc + 3) L (.ref v :: st) (yH y h0)) : Tj G d k P ((gOR k9 G y a).bind r) pc L (.ref a :: st) (yH y h0) := by
  refine tx_bind (fun v hv => ?_)
  unfold gOR at hv
  split at hv
  · rename_i c f e g
    split at hv
    · rename_i hc
      subst hc
      split at hv
      · rename_i x hx
        cases hv
        exact tx_ex hd rfl (by simp only [ai_ex, ai_getf, old_rd hO e g, hf, hx]; rfl) (kk v)
      · cases hv
    · cases hv
  · cases hv
theorem ty_gOI {i k9 a : Nat} {r : Int32 → Option α} (hO : hOld G h0) (hd : decode (ai_mC k) pc = .ok (.getfield i, 3)) (hf : ai_fT (ai_mO k) i 18 = some k9) (kk : ∀ v, Tj G d k P (r v) (pc + 3) L (.int v :: st) (yH y h0)) : Tj G d k P ((gOI k9 G y a).bind r) pc L (.ref a :: st) (yH y h0) := by
  refine tx_bind (fun v hv => ?_)
  unfold gOI at hv
  split at hv
  · rename_i c f e g
    split at hv
    · rename_i hc
      subst hc
      split at hv
      · rename_i x hx
        cases hv
        exact tx_ex hd rfl (by simp only [ai_ex, ai_getf, old_rd hO e g, hf, hx]; rfl) (kk v)
      · cases hv
    · cases hv
  · cases hv
theorem ckO_t {a : Nat} {b : Unit} (hO : hOld G h0) (h : ckO G y a = some b) : ∃ f, ai_rd G (yH y h0) a = some (.inr (18, f)) := by
  unfold ckO at h
  split at h
  · rename_i c f e g
    split at h
    · rename_i hc
      subst hc
      exact ⟨f, old_rd hO e g⟩
    · cases h
  · cases h
theorem cl_t {a c : Nat} (h : cl y a = some c) : yt y a = some (.inr c) := by
  unfold cl at h
  split at h
  · cases h; assumption
  · cases h
theorem tq_athrow {q : Nat} {r : Unit → Option α} (hd : decode (ai_mC k) pc = .ok (.athrow, 1)) (hH : ai_mH k = []) (ht : ai_thr k = true) (hq : ∀ u a, r u = some a → P a (some (.inr q, yH y h0))) : Tj G d k P ((ck 3 y q).bind r) pc L (.ref q :: st) (yH y h0) := by
  refine tx_bind (fun u hu => ?_)
  have e := yH_o (h0 := h0) (ck_t hu)
  exact tx_end hd rfl (by simp only [ai_ex, e, hH, ht]; rfl) (fun a ha => hq u a ha)
/-- a call that may throw, out of this method or to its handler -/
theorem tx_callT {ρ : Type} {y1 : Option ((Nat ⊕ ρ) × yS)} {r1 : Nat → (Nat ⊕ ρ) × yS → Option α} {r2 : ρ → (Nat ⊕ ρ) × yS → Option α} {vv : ρ → Option Value} {i : Instr} {len id pc' : Nat} {as rest : List Value} (hd : decode (ai_mC k) pc = .ok (i, len)) (hl : ai_lok i len = true) (e : ai_ex G k i pc L st h = some (.inr (.inl (id, as, pc', rest)))) (ht : ai_thr id = true) (hn : ai_catch k pc = none) (hc : ∀ b, y1 = some b → ai_call G d id as h = some (oR vv b.1, yH b.2 h0)) (k1 : ∀ q (b : (Nat ⊕ ρ) × yS) a, r1 q b = some a → P a (some (.inr q, yH b.2 h0))) (kk : ∀ v (b : (Nat ⊕ ρ) × yS), Tj G d k P (r2 v b) pc' L ((vv v).toList ++ rest) (yH b.2 h0)) : Tj G d k P (y1.bind fun b => Sum.elim (fun q => r1 q b) (fun v => r2 v b) b.1) pc L st h := by
  refine tx_bind (fun b hb a ha => ?_)
  have e1 : ai_step G k pc L st h = some (.inr (.inl (id, as, pc', rest))) := by
    unfold ai_step
    rw [hd]
    simp only [hl, if_true]
    exact e
  have h2 := hc b hb
  obtain ⟨x, s⟩ := b
  cases x with
  | inl q =>
    rw [ai_run_thr e1 h2 ht hn]
    exact k1 q (.inl q, s) a ha
  | inr v =>
    rw [ai_run_call e1 h2]
    exact kk v (.inr v, s) a ha
theorem tx_callK {ρ : Type} {y1 : Option ((Nat ⊕ ρ) × yS)} {r1 : Nat → (Nat ⊕ ρ) × yS → Option α} {r2 : ρ → (Nat ⊕ ρ) × yS → Option α} {vv : ρ → Option Value} {i : Instr} {len id pc' t : Nat} {as rest : List Value} (hd : decode (ai_mC k) pc = .ok (i, len)) (hl : ai_lok i len = true) (e : ai_ex G k i pc L st h = some (.inr (.inl (id, as, pc', rest)))) (ht : ai_thr id = true) (hn : ai_catch k pc = some t) (hc : ∀ b, y1 = some b → ai_call G d id as h = some (oR vv b.1, yH b.2 h0)) (k1 : ∀ q (b : (Nat ⊕ ρ) × yS), Tj G d k P (r1 q b) t L [.ref q] (yH b.2 h0)) (kk : ∀ v (b : (Nat ⊕ ρ) × yS), Tj G d k P (r2 v b) pc' L ((vv v).toList ++ rest) (yH b.2 h0)) : Tj G d k P (y1.bind fun b => Sum.elim (fun q => r1 q b) (fun v => r2 v b) b.1) pc L st h := by
  refine tx_bind (fun b hb a ha => ?_)
  have e1 : ai_step G k pc L st h = some (.inr (.inl (id, as, pc', rest))) := by
    unfold ai_step
    rw [hd]
    simp only [hl, if_true]
    exact e
  have h2 := hc b hb
  obtain ⟨x, s⟩ := b
  cases x with
  | inl q =>
    rw [ai_run_cat e1 h2 ht hn]
    exact k1 q (.inl q, s) a ha
  | inr v =>
    rw [ai_run_call e1 h2]
    exact kk v (.inr v, s) a ha
end TY

/-! THE ABSTRACT INTERPRETER: values and addresses are the machine's; a heap is (cells, next address, slots used) -/
/-- a cell: an array (its kind, its length, its contents) or an object (its class, its fields) -/
abbrev ai_C : Type := (Nat × vp_A) ⊕ (Nat × (Nat → Value))
abbrev ai_H : Type := (Nat → Option ai_C) × Nat × Nat
abbrev ai_L : Type := List (Option Value)
/-- what is given from outside: constants by number, cells that were there before -/
abbrev ai_G : Type := (Nat → Value) × (Nat → Option ai_C)
abbrev ai_R : Type := (Option Value ⊕ Nat) × ai_H
/-- a step: on (place, locals, stack, heap); a call (method, arguments, place behind it, stack below); an end -/
abbrev ai_S : Type := (Nat × ai_L × List Value × ai_H) ⊕ ((Nat × List Value × Nat × List Value) ⊕ ai_R)
def ai_rd (G : ai_G) (h : ai_H) (a : Nat) : Option ai_C := match h.1 a with
  | some c => some c
  | none => G.2 a
def ai_set (h : ai_H) (a : Nat) (c : ai_C) : ai_H := (va_up h.1 a (some c), h.2)
def ai_push (h : ai_H) (c : ai_C) (n : Nat) : ai_H := (va_up h.1 h.2.1 (some c), h.2.1 + 1, h.2.2 + n)
def ai_nx (pc : Nat) (ls : ai_L) (st : List Value) (h : ai_H) : Option ai_S := some (.inl (pc, ls, st, h))
/-- a local is stored: a long that began one place before it is no more -/
def ai_kill (l : ai_L) (i : Nat) : ai_L := match i with
  | 0 => l
  | j + 1 => match l[j]? with
    | some (some (.long _)) => l.set j none
    | some (some (.double _)) => l.set j none
    | _ => l
def ai_st1 (l : ai_L) (i : Nat) (v : Value) : ai_L := (ai_kill l i).set i (some v)
def ai_st2 (l : ai_L) (i : Nat) (v : Value) : ai_L := ((ai_kill l i).set i (some v)).set (i + 1) none
def ai_jp (pc : Nat) (off : Int) : Option Nat := match (pc : Int) + off with
  | .ofNat t => some t
  | .negSucc _ => none
def ai_ic (c : ClassFile.Cond) (x y : Int32) : Bool := match c with
  | .eq => decide (x = y)
  | .ne => decide (¬ x = y)
  | .lt => decide (x < y)
  | .ge => decide (y ≤ x)
  | .gt => decide (y < x)
  | .le => decide (x ≤ y)
def ai_go1 (b : Bool) (pc : Nat) (off : Int) (ls : ai_L) (st : List Value) (h : ai_H) : Option ai_S :=
  (ai_jp pc off).bind (fun t => if b = true then ai_nx t ls st h else ai_nx (pc + 3) ls st h)
def ai_ib (f : Int32 → Int32 → Int32) (pc : Nat) (ls : ai_L) (st : List Value) (h : ai_H) : Option ai_S := match st with
  | .int y :: .int x :: st => ai_nx (pc + 1) ls (.int (f x y) :: st) h
  | _ => none
def ai_id (f : Int32 → Int32 → Int32) (pc : Nat) (ls : ai_L) (st : List Value) (h : ai_H) : Option ai_S := match st with
  | .int y :: .int x :: st => if y = 0 then none else ai_nx (pc + 1) ls (.int (f x y) :: st) h
  | _ => none
def ai_iu (f : Int32 → Int32) (pc : Nat) (ls : ai_L) (st : List Value) (h : ai_H) : Option ai_S := match st with
  | .int x :: st => ai_nx (pc + 1) ls (.int (f x) :: st) h
  | _ => none
def ai_ldi (i n pc : Nat) (ls : ai_L) (st : List Value) (h : ai_H) : Option ai_S := match ls[i]? with
  | some (some (.int x)) => ai_nx (pc + n) ls (.int x :: st) h
  | _ => none
def ai_ldl (i n pc : Nat) (ls : ai_L) (st : List Value) (h : ai_H) : Option ai_S := match ls[i]? with
  | some (some (.long x)) => ai_nx (pc + n) ls (.long x :: st) h
  | _ => none
def ai_lda (i n pc : Nat) (ls : ai_L) (st : List Value) (h : ai_H) : Option ai_S := match ls[i]? with
  | some (some (.ref x)) => ai_nx (pc + n) ls (.ref x :: st) h
  | some (some .null) => ai_nx (pc + n) ls (.null :: st) h
  | _ => none
def ai_sti (i n pc : Nat) (ls : ai_L) (st : List Value) (h : ai_H) : Option ai_S := match st with
  | .int x :: st => if i < ls.length then ai_nx (pc + n) (ai_st1 ls i (.int x)) st h else none
  | _ => none
def ai_stl (i n pc : Nat) (ls : ai_L) (st : List Value) (h : ai_H) : Option ai_S := match st with
  | .long x :: st => if i + 1 < ls.length then ai_nx (pc + n) (ai_st2 ls i (.long x)) st h else none
  | _ => none
def ai_sta (i n pc : Nat) (ls : ai_L) (st : List Value) (h : ai_H) : Option ai_S := match st with
  | .ref x :: st => if i < ls.length then ai_nx (pc + n) (ai_st1 ls i (.ref x)) st h else none
  | .null :: st => if i < ls.length then ai_nx (pc + n) (ai_st1 ls i .null) st h else none
  | _ => none
def ai_iinc (i : Nat) (k : Int) (pc : Nat) (ls : ai_L) (st : List Value) (h : ai_H) : Option ai_S := match ls[i]? with
  | some (some (.int x)) => if i < ls.length then ai_nx (pc + 3) (ai_st1 ls i (.int (x + Int32.ofInt k))) st h else none
  | _ => none
/-- an array's kind: its elements -/
def ai_ek (t : Nat) : FieldType := match t with
  | 0 => .int
  | 1 => .boolean
  | 2 => .byte
  | 3 => .long
  | 4 => .object "java/lang/Object"
  | 5 => .object "BoardCrossing$Kept"
  | _ => .object "java/lang/String"
def ai_inb (i : Int32) (n : Nat) : Bool := decide (¬ (i < 0 ∨ n ≤ i.toNatClampNeg))
/-- an array's element is read: ints (kind t), longs, references -/
def ai_aldi (G : ai_G) (ok : Nat → Bool) (pc : Nat) (ls : ai_L) (st : List Value) (h : ai_H) : Option ai_S := match st with
  | .int i :: .ref a :: st => match ai_rd G h a with
    | some (.inl (t, n, .inl f)) => if ok t && ai_inb i n then ai_nx (pc + 1) ls (.int (f i.toNatClampNeg) :: st) h else none
    | _ => none
  | _ => none
def ai_aldl (G : ai_G) (pc : Nat) (ls : ai_L) (st : List Value) (h : ai_H) : Option ai_S := match st with
  | .int i :: .ref a :: st => match ai_rd G h a with
    | some (.inl (t, n, .inr (.inl f))) => if decide (t = 3) && ai_inb i n then ai_nx (pc + 1) ls (.long (f i.toNatClampNeg) :: st) h else none
    | _ => none
  | _ => none
def ai_alda (G : ai_G) (pc : Nat) (ls : ai_L) (st : List Value) (h : ai_H) : Option ai_S := match st with
  | .int i :: .ref a :: st => match ai_rd G h a with
    | some (.inl (t, n, .inr (.inr (.inr (.inr f))))) => if decide (4 ≤ t) && decide (t < 7) && ai_inb i n then ai_nx (pc + 1) ls (va_rf (f i.toNatClampNeg) :: st) h else none
    | _ => none
  | _ => none
/-- an array's element is written -/
def ai_asti (ok : Nat → Bool) (pc : Nat) (ls : ai_L) (st : List Value) (h : ai_H) : Option ai_S := match st with
  | .int x :: .int i :: .ref a :: st => match h.1 a with
    | some (.inl (t, n, .inl f)) => if ok t && ai_inb i n then ai_nx (pc + 1) ls st (ai_set h a (.inl (t, n, .inl (upd f i.toNatClampNeg (vp_nar (ai_ek t) x))))) else none
    | _ => none
  | _ => none
def ai_astl (pc : Nat) (ls : ai_L) (st : List Value) (h : ai_H) : Option ai_S := match st with
  | .long x :: .int i :: .ref a :: st => match h.1 a with
    | some (.inl (t, n, .inr (.inl f))) => if decide (t = 3) && ai_inb i n then ai_nx (pc + 1) ls st (ai_set h a (.inl (t, n, .inr (.inl (vp_updL f i.toNatClampNeg x))))) else none
    | _ => none
  | _ => none
/-- is this the address of an object (of a class of ours)? -/
def ai_isob (h : ai_H) (y : Nat) : Bool := match h.1 y with
  | some (.inr (c, _)) => decide (c < ai_ncl)
  | _ => false
/-- may an object be an element of such an array: any in Object[], its own class in the other -/
def ai_elok (h : ai_H) (t y : Nat) : Bool := match h.1 y with
  | some (.inr (c, _)) => decide (c < ai_ncl) && (decide (t = 4) || (decide (t = 5) && decide (c = ai_cKept)))
  | _ => false
def ai_asta (pc : Nat) (ls : ai_L) (st : List Value) (h : ai_H) : Option ai_S := match st with
  | .null :: .int i :: .ref a :: st => match h.1 a with
    | some (.inl (t, n, .inr (.inr (.inr (.inr f))))) => if (decide (t = 4) || decide (t = 5)) && ai_inb i n then ai_nx (pc + 1) ls st (ai_set h a (.inl (t, n, .inr (.inr (.inr (.inr (va_up f i.toNatClampNeg none))))))) else none
    | _ => none
  | .ref y :: .int i :: .ref a :: st => match h.1 a with
    | some (.inl (t, n, .inr (.inr (.inr (.inr f))))) => if ai_elok h t y && ai_inb i n then ai_nx (pc + 1) ls st (ai_set h a (.inl (t, n, .inr (.inr (.inr (.inr (va_up f i.toNatClampNeg (some y)))))))) else none
    | _ => none
  | _ => none
def ai_alen (G : ai_G) (pc : Nat) (ls : ai_L) (st : List Value) (h : ai_H) : Option ai_S := match st with
  | .ref a :: st => match ai_rd G h a with
    | some (.inl (t, n, _)) => if t < 7 then ai_nx (pc + 1) ls (.int (Int32.ofNat n) :: st) h else none
    | _ => none
  | _ => none
/-- whether a value may be stored in a field of a type, as it is -/
def ai_fit (ty : FieldType) (v : Value) : Bool := match ty, v with
  | .int, .int _ => true
  | .boolean, .int x => decide (x = 0) || decide (x = 1)
  | .byte, .int x => decide (x.toInt8.toInt32 = x)
  | .char, .int x => decide ((x.toUInt32 % 65536).toInt32 = x)
  | .long, .long _ => true
  | .object _, .ref _ => true
  | .object _, .null => true
  | .array _, .ref _ => true
  | .array _, .null => true
  | _, _ => false
/-- a field is read: k is its number in the object's class -/
def ai_getf (G : ai_G) (o i pc : Nat) (ls : ai_L) (st : List Value) (h : ai_H) : Option ai_S := match st with
  | .ref a :: st => match ai_rd G h a with
    | some (.inr (c, f)) => match ai_fT o i c with
      | some k => ai_nx (pc + 3) ls (f k :: st) h
      | none => none
    | _ => none
  | _ => none
/-- a field is written; a final one in a constructor of its own class alone -/
def ai_putf (o i : Nat) (ini : Bool) (pc : Nat) (ls : ai_L) (st : List Value) (h : ai_H) : Option ai_S := match st with
  | v :: .ref a :: st => match h.1 a with
    | some (.inr (c, f)) => match ai_fT o i c with
      | some k => if ai_fit (ai_ty c k) v && (!(ai_fin c k) || (ini && decide ((ai_T c k).1 = ai_cn o))) then ai_nx (pc + 3) ls st (ai_set h a (.inr (c, va_up f k v))) else none
      | none => none
    | _ => none
  | _ => none
def ai_dv (ty : FieldType) : Value := defaultValue ty
def ai_new (o i pc : Nat) (ls : ai_L) (st : List Value) (h : ai_H) : Option ai_S := match ai_nT o i with
  | some c => ai_nx (pc + 3) ls (.ref h.2.1 :: st) (ai_push h (.inr (c, fun k => defaultValue (ai_ty c k))) (ai_nf c))
  | none => none
def ai_newa (t pc : Nat) (ls : ai_L) (st : List Value) (h : ai_H) : Option ai_S := match st with
  | .int n :: st => if n < 0 ∨ 65536 < n.toNatClampNeg then none else
      if t = 3 then ai_nx (pc + 2) ls (.ref h.2.1 :: st) (ai_push h (.inl (t, n.toNatClampNeg, .inr (.inl (fun _ => 0)))) n.toNatClampNeg)
      else ai_nx (pc + 2) ls (.ref h.2.1 :: st) (ai_push h (.inl (t, n.toNatClampNeg, .inl (fun _ => 0))) n.toNatClampNeg)
  | _ => none
def ai_anew (o i pc : Nat) (ls : ai_L) (st : List Value) (h : ai_H) : Option ai_S := match st with
  | .int n :: st => match ai_aT o i with
    | some t => if n < 0 ∨ 65536 < n.toNatClampNeg then none else ai_nx (pc + 3) ls (.ref h.2.1 :: st) (ai_push h (.inl (t, n.toNatClampNeg, .inr (.inr (.inr (.inr (fun _ => none)))))) n.toNatClampNeg)
    | none => none
  | _ => none
def ai_cast (G : ai_G) (o i pc : Nat) (ls : ai_L) (st : List Value) (h : ai_H) : Option ai_S := match st with
  | .null :: st => ai_nx (pc + 3) ls (.null :: st) h
  | .ref a :: st => match h.1 a with
    | some (.inr (c, _)) => if ai_kT o i c = true then ai_nx (pc + 3) ls (.ref a :: st) h else none
    | _ => none
  | _ => none
def ai_acmp (c : ClassFile.ACond) (off : Int) (pc : Nat) (ls : ai_L) (st : List Value) (h : ai_H) : Option ai_S := match st with
  | .ref y :: .ref x :: st => match c with
    | .eq => ai_go1 (decide (x = y)) pc off ls st h
    | .ne => ai_go1 (decide (¬ x = y)) pc off ls st h
  | _ => none
def ai_nul (b : Bool) (off : Int) (pc : Nat) (ls : ai_L) (st : List Value) (h : ai_H) : Option ai_S := match st with
  | .ref _ :: st => ai_go1 (!b) pc off ls st h
  | .null :: st => ai_go1 b pc off ls st h
  | _ => none
def ai_cat1 (v : Value) : Bool := match v with
  | .long _ => false
  | .double _ => false
  | _ => true
def ai_wt (st : List Value) : Nat := (st.map fun v => v.category).sum
/-- may these cells be copied into an array of such a kind? -/
def ai_cpok (h : ai_H) (t : Nat) (f : Nat → Option Nat) (sp n : Nat) : Bool := (List.range n).all fun i => match f (sp + i) with
  | none => true
  | some y => ai_elok h t y
def ai_copy (G : ai_G) (pc : Nat) (ls : ai_L) (st : List Value) (h : ai_H) : Option ai_S := match st with
  | .int n :: .int dp :: .ref a :: .int sp :: .ref b :: st =>
    if sp < 0 ∨ dp < 0 ∨ n < 0 ∨ 8 < ai_wt st then none else
    match h.1 b, h.1 a with
    | some (.inl (t0, n0, .inl f)), some (.inl (t1, n1, .inl g)) =>
      if decide (t0 = t1) && decide (t0 < 2) && decide (sp.toNatClampNeg + n.toNatClampNeg ≤ n0) && decide (dp.toNatClampNeg + n.toNatClampNeg ≤ n1) && (List.range n.toNatClampNeg).all (fun i => ai_fit (ai_ek t0) (.int (f (sp.toNatClampNeg + i)))) then
        ai_nx (pc + 3) ls st (ai_set h a (.inl (t1, n1, .inl (va_cpy f g sp.toNatClampNeg dp.toNatClampNeg n.toNatClampNeg)))) else none
    | some (.inl (t0, n0, .inr (.inr (.inr (.inr f))))), some (.inl (t1, n1, .inr (.inr (.inr (.inr g))))) =>
      if decide (t0 = 4) && decide (t1 = 4) && decide (sp.toNatClampNeg + n.toNatClampNeg ≤ n0) && decide (dp.toNatClampNeg + n.toNatClampNeg ≤ n1) && ai_cpok h t1 f sp.toNatClampNeg n.toNatClampNeg then
        ai_nx (pc + 3) ls st (ai_set h a (.inl (t1, n1, .inr (.inr (.inr (.inr (va_cpy f g sp.toNatClampNeg dp.toNatClampNeg n.toNatClampNeg))))))) else none
    | _, _ => none
  | _ => none
/-- the class of a receiver, as the tables of calls have it -/
def ai_rc (G : ai_G) (h : ai_H) (v : Value) : Option Nat := match v with
  | .ref a => match ai_rd G h a with
    | some (.inr (c, _)) => some c
    | _ => none
  | _ => none
def ai_rc1 (v : Value) : Option Nat := match v with
  | .ref _ => some 0
  | _ => none
/-- a call: n arguments (the receiver among them), the first of them the receiver unless it is static -/
def ai_inv (G : ai_G) (o i : Nat) (kd : Nat) (len pc : Nat) (ls : ai_L) (st : List Value) (h : ai_H) : Option ai_S := match ai_aN o i with
  | none => none
  | some n => if st.length < n ∨ 8 < ai_wt (st.drop n) then none else
    match (if kd = 0 then some 0 else ((st.take n).reverse.head?).bind (if kd = 1 then ai_rc1 else ai_rc G h)) with
    | none => none
    | some c => match ai_cT kd o i c with
      | none => none
      | some id => some (.inr (.inl (id, (st.take n).reverse, pc + len, st.drop n)))
/-- a constructor: Object's own does nothing -/
def ai_spec (G : ai_G) (o i pc : Nat) (ls : ai_L) (st : List Value) (h : ai_H) : Option ai_S :=
  if ai_oI o i = true then (match st with
    | .ref _ :: st => if 8 < ai_wt st then none else ai_nx (pc + 3) ls st h
    | _ => none)
  else if ai_wI o i = true then (match st with
    | .ref a :: st => match h.1 a with
      | some (.inr (c, _)) => if c = ai_cWrong ∧ ¬ 8 < ai_wt st then ai_nx (pc + 3) ls st h else none
      | _ => none
    | _ => none)
  else ai_inv G o i 1 3 pc ls st h
def ai_stat (G : ai_G) (o i pc : Nat) (ls : ai_L) (st : List Value) (h : ai_H) : Option ai_S :=
  if ai_cpI o i = true then ai_copy G pc ls st h
  else if ai_mxI o i = true then (match st with
    | .int y :: .int x :: st => if 8 < ai_wt st then none else ai_nx (pc + 3) ls (.int (if x < y then y else x) :: st) h
    | _ => none)
  else if ai_mnI o i = true then (match st with
    | .int y :: .int x :: st => if 8 < ai_wt st then none else ai_nx (pc + 3) ls (.int (if y < x then y else x) :: st) h
    | _ => none)
  else if ai_abI o i = true then (match st with
    | .int x :: st => if 8 < ai_wt st then none else ai_nx (pc + 3) ls (.int (if 0 ≤ x then x else 0 - x) :: st) h
    | _ => none)
  else ai_inv G o i 0 3 pc ls st h
/-- getClass of an array of Objects: its class's mirror -/
def ai_virt (G : ai_G) (o i pc : Nat) (ls : ai_L) (st : List Value) (h : ai_H) : Option ai_S :=
  if ai_gcI o i = true then (match st with
    | .ref a :: st => match h.1 a with
      | some (.inl (4, _, _)) => if 8 < ai_wt st then none else ai_nx (pc + 3) ls (G.1 ai_kMirror :: st) h
      | _ => none
    | _ => none)
  else ai_inv G o i 2 3 pc ls st h
def ai_tsw (dflt lo hi : Int) (offs : Array Int) (x : Int) : Option Int := if x < lo ∨ hi < x then some dflt else offs[(x - lo).toNat]?
def ai_ret (v : Option Value) (h : ai_H) : Option ai_S := some (.inr (.inr (.inl v, h)))
/-- what a method that answers such a thing may return -/
def ai_rok (ret : Option FieldType) (v : Value) : Bool := match ret with
  | none => false
  | some ty => ai_fit ty v
/-- is this constant the mirror? -/
def ai_mrI (o i : Nat) : Bool := (ai_lsl o).any fun e => e.1 == i && e.2 == ai_kMirror
def ai_pushv (v : Option Value) (n pc : Nat) (ls : ai_L) (st : List Value) (h : ai_H) : Option ai_S := match v with
  | some v => ai_nx (pc + n) ls (v :: st) h
  | none => none
/-- the length of an instruction that the rows know -/
def ai_lok (i : Instr) (len : Nat) : Bool := match i with
  | .aload _ | .iload _ | .lload _ | .astore _ | .istore _ | .lstore _ | .bipush _ | .ldc _ | .newarray _ => decide (len = 2)
  | .goto _ | .if_acmp _ _ | .if_icmp _ _ | .ifCond _ _ | .ifnonnull _ | .ifnull _ | .iinc _ _ | .getfield _ | .putfield _ | .getstatic _ | .new _ | .anewarray _ | .checkcast _ | .invokespecial _ | .invokestatic _ | .invokevirtual _ | .sipush _ | .ldc_w _ | .ldc2_w _ => decide (len = 3)
  | .invokeinterface _ _ => decide (len = 5)
  | .tableswitch _ _ _ _ | .lookupswitch _ _ => true
  | _ => decide (len = 1)
/-- the methods that may throw: the reader's, but its constructor -/
def ai_thr (k : Nat) : Bool := decide (ai_mO k = ai_cRead) && !(ai_mI k) && decide ((ai_mY k).name ∉ ["isLette\x72", "isDigit", "isSign"])
def ai_ex (G : ai_G) (k : Nat) (i : Instr) (pc : Nat) (ls : ai_L) (st : List Value) (h : ai_H) : Option ai_S := match i with
  | .aconst_null => ai_nx (pc + 1) ls (.null :: st) h
  | .iconst n => ai_nx (pc + 1) ls (.int (Int32.ofInt n) :: st) h
  | .lconst n => ai_nx (pc + 1) ls (.long (Int64.ofNat n.val) :: st) h
  | .bipush n => ai_nx (pc + 2) ls (.int (Int8.ofInt n).toInt32 :: st) h
  | .sipush n => ai_nx (pc + 3) ls (.int (Int16.ofInt n).toInt32 :: st) h
  | .ldc i => ai_pushv (ai_lT G (ai_mO k) i) 2 pc ls st h
  | .ldc_w i => if ai_mrI (ai_mO k) i = true then none else ai_pushv (ai_lT G (ai_mO k) i) 3 pc ls st h
  | .ldc2_w i => ai_pushv (ai_l2T (ai_mO k) i) 3 pc ls st h
  | .aload j => ai_lda j 2 pc ls st h
  | .aload_n j => ai_lda j.val 1 pc ls st h
  | .iload j => ai_ldi j 2 pc ls st h
  | .iload_n j => ai_ldi j.val 1 pc ls st h
  | .lload j => ai_ldl j 2 pc ls st h
  | .lload_n j => ai_ldl j.val 1 pc ls st h
  | .astore j => ai_sta j 2 pc ls st h
  | .astore_n j => ai_sta j.val 1 pc ls st h
  | .istore j => ai_sti j 2 pc ls st h
  | .istore_n j => ai_sti j.val 1 pc ls st h
  | .lstore j => ai_stl j 2 pc ls st h
  | .lstore_n j => ai_stl j.val 1 pc ls st h
  | .iinc j n => ai_iinc j n pc ls st h
  | .iadd => ai_ib (fun x y => x + y) pc ls st h
  | .isub => ai_ib (fun x y => x - y) pc ls st h
  | .imul => ai_ib (fun x y => x * y) pc ls st h
  | .iand => ai_ib (fun x y => x &&& y) pc ls st h
  | .ior => ai_ib (fun x y => x ||| y) pc ls st h
  | .ixor => ai_ib (fun x y => x ^^^ y) pc ls st h
  | .ishl => ai_ib (fun x y => x <<< (y &&& 31)) pc ls st h
  | .ishr => ai_ib (fun x y => x >>> (y &&& 31)) pc ls st h
  | .iushr => ai_ib (fun x y => (x.toUInt32 >>> (y.toUInt32 &&& Int32.toUInt32 31)).toInt32) pc ls st h
  | .idiv => ai_id (fun x y => x / y) pc ls st h
  | .irem => ai_id (fun x y => x - x / y * y) pc ls st h
  | .ineg => ai_iu (fun x => -x) pc ls st h
  | .i2b => ai_iu (fun x => x.toInt8.toInt32) pc ls st h
  | .i2c => ai_iu (fun x => (x.toUInt32 % 65536).toInt32) pc ls st h
  | .i2l => (match st with
    | .int x :: st => ai_nx (pc + 1) ls (.long x.toInt64 :: st) h
    | _ => none)
  | .lshl => (match st with
    | .int y :: .long x :: st => ai_nx (pc + 1) ls (.long (x <<< (y.toInt64 &&& 63)) :: st) h
    | _ => none)
  | .lor => (match st with
    | .long y :: .long x :: st => ai_nx (pc + 1) ls (.long (x ||| y) :: st) h
    | _ => none)
  | .lcmp => (match st with
    | .long y :: .long x :: st => ai_nx (pc + 1) ls (.int (lg_cmp x y) :: st) h
    | _ => none)
  | .dup => (match st with
    | v :: st => if ai_cat1 v = true then ai_nx (pc + 1) ls (v :: v :: st) h else none
    | _ => none)
  | .pop => (match st with
    | v :: st => if ai_cat1 v = true then ai_nx (pc + 1) ls st h else none
    | _ => none)
  | .dup_x1 => (match st with
    | v :: w :: st => if ai_cat1 v && ai_cat1 w then ai_nx (pc + 1) ls (v :: w :: v :: st) h else none
    | _ => none)
  | .dup2 => (match st with
    | v :: w :: st => if ai_cat1 v && ai_cat1 w then ai_nx (pc + 1) ls (v :: w :: v :: w :: st) h else none
    | _ => none)
  | .goto off => (ai_jp pc off).bind (fun t => ai_nx t ls st h)
  | .if_icmp c off => (match st with
    | .int y :: .int x :: st => ai_go1 (ai_ic c x y) pc off ls st h
    | _ => none)
  | .ifCond c off => (match st with
    | .int x :: st => ai_go1 (ai_ic c x 0) pc off ls st h
    | _ => none)
  | .if_acmp c off => ai_acmp c off pc ls st h
  | .ifnull off => ai_nul true off pc ls st h
  | .ifnonnull off => ai_nul false off pc ls st h
  | .tableswitch d lo hi offs => (match st with
    | .int x :: st => (ai_tsw d lo hi offs x.toInt).bind (fun off => (ai_jp pc off).bind (fun t => ai_nx t ls st h))
    | _ => none)
  | .lookupswitch d ps => (match st with
    | .int x :: st => if (ps.toList.zip (ps.toList.drop 1)).all (fun (a, next) => a.1 < next.1) = true then (ai_jp pc (Op.lookupswitch.offset ps.toList d x.toInt)).bind (fun t => ai_nx t ls st h) else none
    | _ => none)
  | .iaload => ai_aldi G (fun t => decide (t = 0)) pc ls st h
  | .baload => ai_aldi G (fun t => decide (t = 1) || decide (t = 2)) pc ls st h
  | .laload => ai_aldl G pc ls st h
  | .aaload => ai_alda G pc ls st h
  | .iastore => ai_asti (fun t => decide (t = 0)) pc ls st h
  | .bastore => ai_asti (fun t => decide (t = 1) || decide (t = 2)) pc ls st h
  | .lastore => ai_astl pc ls st h
  | .aastore => ai_asta pc ls st h
  | .arraylength => ai_alen G pc ls st h
  | .getfield i => ai_getf G (ai_mO k) i pc ls st h
  | .putfield i => ai_putf (ai_mO k) i (ai_mI k) pc ls st h
  | .getstatic i => ai_pushv (ai_gT G (ai_mO k) i) 3 pc ls st h
  | .new i => ai_new (ai_mO k) i pc ls st h
  | .newarray t => (match t with
    | .int => ai_newa 0 pc ls st h
    | .boolean => ai_newa 1 pc ls st h
    | .byte => ai_newa 2 pc ls st h
    | .long => ai_newa 3 pc ls st h
    | _ => none)
  | .anewarray i => ai_anew (ai_mO k) i pc ls st h
  | .checkcast i => ai_cast G (ai_mO k) i pc ls st h
  | .invokespecial i => ai_spec G (ai_mO k) i pc ls st h
  | .invokestatic i => ai_stat G (ai_mO k) i pc ls st h
  | .invokevirtual i => ai_virt G (ai_mO k) i pc ls st h
  | .invokeinterface i _ => ai_inv G (ai_mO k) i 3 5 pc ls st h
  | .ireturn => (match st with
    | [.int v] => if ai_rok (ai_mR k) (.int v) = true then ai_ret (some (.int v)) h else none
    | _ => none)
  | .lreturn => (match st with
    | [.long v] => if ai_mR k = some .long then ai_ret (some (.long v)) h else none
    | _ => none)
  | .areturn => (match st with
    | [v] => if ai_rok (ai_mR k) v = true ∧ v.isRef = true then ai_ret (some v) h else none
    | _ => none)
  | .return_ => (match st with
    | [] => if ai_mR k = none then ai_ret none h else none
    | _ => none)
  | .athrow => (match st with
    | .ref q :: _ => match h.1 q with
      | some (.inr (c, _)) => if c = ai_cWrong ∧ ai_mH k = [] ∧ ai_thr k = true then some (.inr (.inr (.inr q, h))) else none
      | _ => none
    | _ => none)
  | _ => none
def ai_step (G : ai_G) (k pc : Nat) (ls : ai_L) (st : List Value) (h : ai_H) : Option ai_S := match decode (ai_mC k) pc with
  | .ok (i, len) => if ai_lok i len = true then ai_ex G k i pc ls st h else none
  | .error _ => none
def ai_catch (k pc : Nat) : Option Nat := ((ai_mH k).find? fun x => decide (x.1 ≤ pc) && decide (pc < x.2.1)).map fun x => x.2.2.1
/-- the places of the locals at a method's entry -/
def ai_sl : List Value → ai_L
  | [] => []
  | .long x :: l => some (.long x) :: none :: ai_sl l
  | .double x :: l => some (.double x) :: none :: ai_sl l
  | v :: l => some v :: ai_sl l
def ai_en (k : Nat) (args : List Value) : ai_L := ai_sl args ++ List.replicate (ai_mL k - (ai_sl args).length) none
/-- n steps at most; calls by what is given -/
def ai_go (G : ai_G) (call : Nat → List Value → ai_H → Option ai_R) : Nat → Nat → Nat → ai_L → List Value → ai_H → Option ai_R
  | 0, _, _, _, _, _ => none
  | n + 1, k, pc, ls, st, h => match ai_step G k pc ls st h with
    | none => none
    | some (.inl (pc', ls', st', h')) => ai_go G call n k pc' ls' st' h'
    | some (.inr (.inl (id, args, pc', rest))) => match call id args h with
      | none => none
      | some (.inl v, h') => ai_go G call n k pc' ls (v.toList ++ rest) h'
      | some (.inr q, h') => if ai_thr id = true then (match ai_catch k pc with
        | some t => ai_go G call n k t ls [.ref q] h'
        | none => some (.inr q, h')) else none
    | some (.inr (.inr r)) => some r
noncomputable def ai_fix {α : Type} (f : Nat → Option α) : Option α := @dite (Option α) (∃ n r, f n = some r) (Classical.propDecidable _) (fun h => some (Classical.choose (Classical.choose_spec h))) (fun _ => none)
/-- a method of a depth d of calls below it -/
noncomputable def ai_call (G : ai_G) : Nat → Nat → List Value → ai_H → Option ai_R
  | 0 => fun _ _ _ => none
  | d + 1 => fun k args h => if (ai_sl args).length ≤ ai_mL k then ai_fix fun n => ai_go G (ai_call G d) n k 0 (ai_en k args) [] h else none
/-- the rest of a method, from a place on; d: the depth left for its calls -/
noncomputable def ai_run (G : ai_G) (d k pc : Nat) (ls : ai_L) (st : List Value) (h : ai_H) : Option ai_R := ai_fix fun n => ai_go G (ai_call G d) n k pc ls st h
theorem ai_go_mono (G : ai_G) (call : Nat → List Value → ai_H → Option ai_R) : ∀ (n m k pc : Nat) (ls : ai_L) (st : List Value) (h : ai_H) (r : ai_R), ai_go G call n k pc ls st h = some r → n ≤ m → ai_go G call m k pc ls st h = some r := by
  intro n
  induction n with
  | zero => intro m k pc ls st h r e; simp [ai_go] at e
  | succ n ih =>
    intro m k pc ls st h r e hm
    obtain ⟨m, rfl⟩ : ∃ j, m = j + 1 := ⟨m - 1, by omega⟩
    have hm' : n ≤ m := by omega
    simp only [ai_go] at e ⊢
    split at e
    · exact absurd e (by simp)
    · exact ih _ _ _ _ _ _ _ e hm'
    · split at e
      · exact absurd e (by simp)
      · exact ih _ _ _ _ _ _ _ e hm'
      · split at e
        · rename_i ht
          rw [if_pos ht]
          split at e
          · exact ih _ _ _ _ _ _ _ e hm'
          · exact e
        · exact absurd e (by simp)
    · exact e
theorem ai_fix_some {α : Type} {f : Nat → Option α} (hm : ∀ n m r, f n = some r → n ≤ m → f m = some r) {n : Nat} {r : α} (h : f n = some r) : ai_fix f = some r := by
  have hx : ∃ n r, f n = some r := ⟨n, r, h⟩
  unfold ai_fix
  rw [dif_pos hx]
  have h2 := Classical.choose_spec (Classical.choose_spec hx)
  congr 1
  rcases Nat.le_total n (Classical.choose hx) with q | q
  · exact Option.some.inj (h2.symm.trans (hm _ _ _ h q))
  · exact Option.some.inj ((hm _ _ _ h2 q).symm.trans h)
theorem ai_fix_get {α : Type} {f : Nat → Option α} {r : α} (h : ai_fix f = some r) : ∃ n, f n = some r := by
  unfold ai_fix at h
  by_cases hx : ∃ n r, f n = some r
  · rw [dif_pos hx] at h
    have h2 := Classical.choose_spec (Classical.choose_spec hx)
    exact ⟨_, h2.trans h⟩
  · rw [dif_neg hx] at h
    cases h
/-- a function that begins one step later has the same end -/
theorem ai_fix_eq {α : Type} {f g : Nat → Option α} (hf : ∀ n m r, f n = some r → n ≤ m → f m = some r) (hg : ∀ n m r, g n = some r → n ≤ m → g m = some r) (h0 : f 0 = none) (h1 : ∀ n, f (n + 1) = g n) : ai_fix f = ai_fix g := by
  cases e : ai_fix g with
  | some r =>
    obtain ⟨n, hn⟩ := ai_fix_get e
    exact ai_fix_some hf (n := n + 1) (by rw [h1, hn])
  | none =>
    cases e2 : ai_fix f with
    | none => rfl
    | some r =>
      obtain ⟨n, hn⟩ := ai_fix_get e2
      cases n with
      | zero => rw [h0] at hn; cases hn
      | succ n =>
        rw [h1] at hn
        rw [ai_fix_some hg hn] at e
        cases e
theorem ai_call_run (G : ai_G) (d k : Nat) (args : List Value) (h : ai_H) (hl : (ai_sl args).length ≤ ai_mL k) : ai_call G (d + 1) k args h = ai_run G d k 0 (ai_en k args) [] h := if_pos hl
theorem ai_run_nx {G : ai_G} {d k pc pc' : Nat} {ls ls' : ai_L} {st st' : List Value} {h h' : ai_H} (e : ai_step G k pc ls st h = some (.inl (pc', ls', st', h'))) : ai_run G d k pc ls st h = ai_run G d k pc' ls' st' h' := by
  refine ai_fix_eq (fun n m r => ai_go_mono G _ n m k pc ls st h r) (fun n m r => ai_go_mono G _ n m k pc' ls' st' h' r) rfl (fun n => ?_)
  simp only [ai_go, e]
theorem ai_run_no {G : ai_G} {d k pc : Nat} {ls : ai_L} {st : List Value} {h : ai_H} {r : ai_R} (e : ai_step G k pc ls st h = some (.inr (.inr r))) : ai_run G d k pc ls st h = some r :=
  ai_fix_some (fun n m r => ai_go_mono G _ n m k pc ls st h r) (n := 1) (by simp only [ai_go, e])
/-- behind a call that came back -/
theorem ai_run_call {G : ai_G} {d k pc id pc' : Nat} {ls : ai_L} {st args rest : List Value} {h h' : ai_H} {v : Option Value} (e : ai_step G k pc ls st h = some (.inr (.inl (id, args, pc', rest)))) (hc : ai_call G d id args h = some (.inl v, h')) : ai_run G d k pc ls st h = ai_run G d k pc' ls (v.toList ++ rest) h' := by
  refine ai_fix_eq (fun n m r => ai_go_mono G _ n m k pc ls st h r) (fun n m r => ai_go_mono G _ n m k pc' ls (v.toList ++ rest) h' r) rfl (fun n => ?_)
  simp only [ai_go, e, hc]
theorem ai_run_thr {G : ai_G} {d k pc id pc' q : Nat} {ls : ai_L} {st args rest : List Value} {h h' : ai_H} (e : ai_step G k pc ls st h = some (.inr (.inl (id, args, pc', rest)))) (hc : ai_call G d id args h = some (.inr q, h')) (ht : ai_thr id = true) (hn : ai_catch k pc = none) : ai_run G d k pc ls st h = some (.inr q, h') :=
  ai_fix_some (fun n m r => ai_go_mono G _ n m k pc ls st h r) (n := 1) (by simp only [ai_go, e, hc, ht, hn, if_true])
theorem ai_run_cat {G : ai_G} {d k pc id pc' q t : Nat} {ls : ai_L} {st args rest : List Value} {h h' : ai_H} (e : ai_step G k pc ls st h = some (.inr (.inl (id, args, pc', rest)))) (hc : ai_call G d id args h = some (.inr q, h')) (ht : ai_thr id = true) (hn : ai_catch k pc = some t) : ai_run G d k pc ls st h = ai_run G d k t ls [.ref q] h' := by
  refine ai_fix_eq (fun n m r => ai_go_mono G _ n m k pc ls st h r) (fun n m r => ai_go_mono G _ n m k t ls [.ref q] h' r) rfl (fun n => ?_)
  simp only [ai_go, e, hc, ht, hn, if_true]

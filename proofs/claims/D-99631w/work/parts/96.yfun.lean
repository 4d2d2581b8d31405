/-! THE COMPONENT AS FUNCTIONS (printed by tools/decy.py) -/
set_option maxRecDepth 100000
noncomputable def fy_J0_init (G : ai_G) (s : yS) (v0 : Nat) : Option (Unit) :=
  some ()
noncomputable def fy_J1_init (G : ai_G) (s : yS) (v0 : Nat) : Option (yS) :=
  (fy_J0_init G s v0).bind fun p1 =>
  (wI 16 0 s v0 0).bind fun s6 =>
  some s6
noncomputable def fy_List_init (G : ai_G) (s : yS) (v0 : Nat) : Option (yS) :=
  (fy_J1_init G s v0).bind fun p1 =>
  (cst G 50).bind fun x5 =>
  (wR 16 1 p1 v0 (some x5)).bind fun s8 =>
  some s8
noncomputable def fy_River_init (G : ai_G) (s : yS) (v0 : Nat) : Option (yS) :=
  (mk 16 s).bind fun s5 =>
  (fy_List_init G s5.2 s5.1).bind fun p9 =>
  (wR 1 0 p9 v0 (some s5.1)).bind fun s12 =>
  (mk 16 s12).bind fun s16 =>
  (fy_List_init G s16.2 s16.1).bind fun p20 =>
  (wR 1 1 p20 v0 (some s16.1)).bind fun s23 =>
  (mka 0 s23 56).bind fun s29 =>
  (wR 1 2 s29.2 v0 (some s29.1)).bind fun s31 =>
  (mka 1 s31 56).bind fun s37 =>
  (wR 1 3 s37.2 v0 (some s37.1)).bind fun s39 =>
  (mka 1 s39 56).bind fun s45 =>
  (wR 1 4 s45.2 v0 (some s45.1)).bind fun s47 =>
  (wI 1 8 s47 v0 8).bind fun s53 =>
  (wI 1 9 s53 v0 6).bind fun s59 =>
  (mka 0 s59 6).bind fun s65 =>
  (wR 1 16 s65.2 v0 (some s65.1)).bind fun s67 =>
  some s67
noncomputable def fy_State_init (G : ai_G) (s : yS) (v0 : Nat) : Option (yS) :=
  (mka 0 s 4).bind fun s6 =>
  (wR 2 0 s6.2 v0 (some s6.1)).bind fun s8 =>
  (mka 0 s8 4).bind fun s13 =>
  (wR 2 1 s13.2 v0 (some s13.1)).bind fun s15 =>
  (mka 0 s15 4).bind fun s20 =>
  (wR 2 2 s20.2 v0 (some s20.1)).bind fun s22 =>
  (mka 0 s22 4).bind fun s27 =>
  (wR 2 3 s27.2 v0 (some s27.1)).bind fun s29 =>
  (mka 0 s29 4).bind fun s34 =>
  (wR 2 4 s34.2 v0 (some s34.1)).bind fun s36 =>
  (mka 0 s36 7).bind fun s42 =>
  (wR 2 5 s42.2 v0 (some s42.1)).bind fun s44 =>
  some s44
noncomputable def fy_Wish_init (G : ai_G) (s : yS) (v0 : Nat) (v1 : Nat) : Option (yS) :=
  (wR2 4 5 2 s v0 (some v1)).bind fun s2 =>
  some s2
noncomputable def fy_Coolest_init (G : ai_G) (s : yS) (v0 : Nat) (v1 : Nat) : Option (yS) :=
  (wR 4 3 s v0 (some v1)).bind fun s2 =>
  (fy_Wish_init G s2 v0 v1).bind fun p7 =>
  some p7
noncomputable def fy_Straightest_init (G : ai_G) (s : yS) (v0 : Nat) (v1 : Nat) : Option (yS) :=
  (wR 5 4 s v0 (some v1)).bind fun s2 =>
  (fy_Wish_init G s2 v0 v1).bind fun p7 =>
  some p7
noncomputable def fy_Kept_init (G : ai_G) (s : yS) (v0 : Nat) (v1 : Option Nat) : Option (yS) :=
  (wR 6 0 s v0 v1).bind fun s6 =>
  some s6
noncomputable def fy_List_size (G : ai_G) (s : yS) (v0 : Nat) : Option (Int32) :=
  (gI 16 2 s v0).bind fun x1 =>
  some x1
noncomputable def fy_J6_checkIndex (v0 : Int32) (v1 : Int32) : Option (Int32) :=
  if v0 < 0 then (
    none)
  else (
    if v0 < v1 then (
      some v0)
    else (
      none))
noncomputable def fy_J5_checkIndex (v0 : Int32) (v1 : Int32) : Option (Int32) :=
  (fy_J6_checkIndex v0 v1).bind fun p3 =>
  some p3
noncomputable def fy_List_elementData (G : ai_G) (s : yS) (v0 : Nat) (v1 : Int32) : Option (Nat) :=
  (gR 16 1 s v0).bind fun x1 =>
  (aE G s x1 v1).bind fun x5 =>
  some x5
noncomputable def fy_List_get (G : ai_G) (s : yS) (v0 : Nat) (v1 : Int32) : Option (Nat) :=
  (gI 16 2 s v0).bind fun x2 =>
  (fy_J5_checkIndex v1 x2).bind fun p5 =>
  (ck 16 s v0).bind fun _ =>
  (fy_List_elementData G s v0 v1).bind fun p11 =>
  some p11
noncomputable def fy_State_begin_j41 (G : ai_G) (s : yS) (v0 : Nat) (v1 : Nat) (v2 : Int32) (t0 : Nat) (t1 : Int32) (t2 : Int32) : Option ((Int32 × yS) ⊕ yS) :=
  (wA s t0 t1 t2).bind fun s41 =>
  (gR 2 1 s41 v0).bind fun x43 =>
  (wA s41 x43 v2 0).bind fun s48 =>
  (gR 2 2 s48 v0).bind fun x50 =>
  (wA s48 x50 v2 0).bind fun s55 =>
  (gR 2 3 s55 v0).bind fun x57 =>
  (wA s55 x57 v2 0).bind fun s62 =>
  (gR 2 4 s62 v0).bind fun x64 =>
  (wA s62 x64 v2 0).bind fun s69 =>
  some (.inl ((v2 + 1), s69))
noncomputable def fy_State_begin_b2 (G : ai_G) (v0 : Nat) (v1 : Nat) (q : Int32 × yS) : Option ((Int32 × yS) ⊕ yS) :=
  if 4 ≤ q.1 then (
    some (.inr q.2))
  else (
    (gR 2 0 q.2 v0).bind fun x8 =>
    (gR 1 0 q.2 v1).bind fun x14 =>
    (ck 16 q.2 x14).bind fun _ =>
    (fy_List_size G q.2 x14).bind fun p17 =>
    if p17 ≤ q.1 then (
      fy_State_begin_j41 G q.2 v0 v1 q.1 x8 q.1 0)
    else (
      (gR 1 0 q.2 v1).bind fun x24 =>
      (ck 16 q.2 x24).bind fun _ =>
      (fy_List_get G q.2 x24 q.1).bind fun p28 =>
      (ck 9 q.2 p28).bind fun _ =>
      (gI 9 2 q.2 p28).bind fun x34 =>
      fy_State_begin_j41 G q.2 v0 v1 q.1 x8 q.1 x34))
noncomputable def fy_State_begin_b78 (G : ai_G) (v0 : Nat) (v1 : Nat) (q : Int32 × yS) : Option ((Int32 × yS) ⊕ yS) :=
  if 7 ≤ q.1 then (
    some (.inr q.2))
  else (
    (gR 2 5 q.2 v0).bind fun x85 =>
    (wA q.2 x85 q.1 (-1)).bind fun s90 =>
    some (.inl ((q.1 + 1), s90)))
noncomputable def fy_State_begin (G : ai_G) (s : yS) (v0 : Nat) (v1 : Nat) : Option (yS) :=
  (lp (fy_State_begin_b2 G v0 v1) (0, s)).bind fun q2 =>
  (lp (fy_State_begin_b78 G v0 v1) (0, q2)).bind fun q78 =>
  (gI 1 15 q78 v1).bind fun x99 =>
  (wI 2 6 q78 v0 x99).bind fun s102 =>
  some s102
noncomputable def fy_List_clear_b27 (G : ai_G) (v1 : Nat) (v2 : Int32) (q : Int32 × yS) : Option ((Int32 × yS) ⊕ yS) :=
  if v2 ≤ q.1 then (
    some (.inr q.2))
  else (
    (wE q.2 v1 q.1 none).bind fun s35 =>
    some (.inl ((q.1 + 1), s35)))
noncomputable def fy_List_clear (G : ai_G) (s : yS) (v0 : Nat) : Option (yS) :=
  (gI 16 0 s v0).bind fun x2 =>
  (wI 16 0 s v0 (x2 + 1)).bind fun s7 =>
  (gR 16 1 s7 v0).bind fun x11 =>
  (gI 16 2 s7 v0).bind fun x16 =>
  (wI 16 2 s7 v0 0).bind fun s23 =>
  (lp (fy_List_clear_b27 G x11 x16) (0, s23)).bind fun q27 =>
  some q27
noncomputable def fy_B_start_b39 (G : ai_G) (v0 : Nat) (q : Int32 × yS) : Option ((Int32 × yS) ⊕ yS) :=
  if 3 ≤ q.1 then (
    some (.inr q.2))
  else (
    (gR 0 28 q.2 v0).bind fun x45 =>
    (aE G q.2 x45 q.1).bind fun x49 =>
    (wR 6 0 q.2 x49 none).bind fun s51 =>
    some (.inl ((q.1 + 1), s51)))
noncomputable def fy_B_start (G : ai_G) (s : yS) (v0 : Nat) : Option (yS) :=
  (gR 0 1 s v0).bind fun x1 =>
  (gR 0 0 s v0).bind fun x5 =>
  (ck 2 s x1).bind fun _ =>
  (fy_State_begin G s x1 x5).bind fun p8 =>
  (gR 0 9 p8 v0).bind fun x12 =>
  (ck 16 p8 x12).bind fun _ =>
  (fy_List_clear G p8 x12).bind fun p15 =>
  (gR 0 10 p15 v0).bind fun x19 =>
  (ck 16 p15 x19).bind fun _ =>
  (fy_List_clear G p15 x19).bind fun p22 =>
  (gR 0 23 p22 v0).bind fun x26 =>
  (ck 16 p22 x26).bind fun _ =>
  (fy_List_clear G p22 x26).bind fun p29 =>
  (wI 0 13 p29 v0 0).bind fun s34 =>
  (lp (fy_B_start_b39 G v0) (0, s34)).bind fun q39 =>
  some q39
noncomputable def fy_B_init (G : ai_G) (s : yS) (v0 : Nat) : Option (yS) :=
  (mk 1 s).bind fun s5 =>
  (fy_River_init G s5.2 s5.1).bind fun p9 =>
  (wR 0 0 p9 v0 (some s5.1)).bind fun s12 =>
  (mk 2 s12).bind fun s16 =>
  (fy_State_init G s16.2 s16.1).bind fun p20 =>
  (wR 0 1 p20 v0 (some s16.1)).bind fun s23 =>
  (mk 2 s23).bind fun s27 =>
  (fy_State_init G s27.2 s27.1).bind fun p31 =>
  (wR 0 2 p31 v0 (some s27.1)).bind fun s34 =>
  (mka 2 s34 1600).bind fun s41 =>
  (wR 0 3 s41.2 v0 (some s41.1)).bind fun s43 =>
  (mk 3 s43).bind fun s47 =>
  (ck 3 s47.2 s47.1).bind fun _ =>
  (wR 0 4 s47.2 v0 (some s47.1)).bind fun s54 =>
  (wI 0 8 s54 v0 (-1)).bind fun s59 =>
  (mk 16 s59).bind fun s63 =>
  (fy_List_init G s63.2 s63.1).bind fun p67 =>
  (wR 0 9 p67 v0 (some s63.1)).bind fun s70 =>
  (mk 16 s70).bind fun s74 =>
  (fy_List_init G s74.2 s74.1).bind fun p78 =>
  (wR 0 10 p78 v0 (some s74.1)).bind fun s81 =>
  (mka 0 s81 7).bind fun s87 =>
  (wR 0 11 s87.2 v0 (some s87.1)).bind fun s89 =>
  (mka 0 s89 7).bind fun s95 =>
  (wR 0 12 s95.2 v0 (some s95.1)).bind fun s97 =>
  (mk 4 s97).bind fun s101 =>
  (fy_Coolest_init G s101.2 s101.1 v0).bind fun p106 =>
  (wR 0 14 p106 v0 (some s101.1)).bind fun s109 =>
  (mk 5 s109).bind fun s113 =>
  (fy_Straightest_init G s113.2 s113.1 v0).bind fun p118 =>
  (wR 0 15 p118 v0 (some s113.1)).bind fun s121 =>
  (mka 0 s121 8).bind fun s127 =>
  (wR 0 17 s127.2 v0 (some s127.1)).bind fun s129 =>
  (mka 1 s129 64).bind fun s135 =>
  (wR 0 18 s135.2 v0 (some s135.1)).bind fun s137 =>
  (mka 1 s137 64).bind fun s143 =>
  (wR 0 19 s143.2 v0 (some s143.1)).bind fun s145 =>
  (mka 0 s145 4).bind fun s150 =>
  (wR 0 22 s150.2 v0 (some s150.1)).bind fun s152 =>
  (mk 16 s152).bind fun s156 =>
  (fy_List_init G s156.2 s156.1).bind fun p160 =>
  (wR 0 23 p160 v0 (some s156.1)).bind fun s163 =>
  (mka 0 s163 4374).bind fun s170 =>
  (wR 0 24 s170.2 v0 (some s170.1)).bind fun s172 =>
  (mka 0 s172 4374).bind fun s179 =>
  (wR 0 25 s179.2 v0 (some s179.1)).bind fun s181 =>
  (mka 0 s181 18).bind fun s187 =>
  (wR 0 26 s187.2 v0 (some s187.1)).bind fun s189 =>
  (mka 5 s189 3).bind fun s194 =>
  (mk 6 s194.2).bind fun s199 =>
  (fy_Kept_init G s199.2 s199.1 none).bind fun p204 =>
  (wE p204 s194.1 0 (some s199.1)).bind fun s207 =>
  (mk 6 s207).bind fun s210 =>
  (fy_Kept_init G s210.2 s210.1 none).bind fun p215 =>
  (wE p215 s194.1 1 (some s210.1)).bind fun s218 =>
  (mk 6 s218).bind fun s221 =>
  (fy_Kept_init G s221.2 s221.1 none).bind fun p226 =>
  (wE p226 s194.1 2 (some s221.1)).bind fun s229 =>
  (wR 0 28 s229 v0 (some s194.1)).bind fun s230 =>
  (ck 0 s230 v0).bind fun _ =>
  (fy_B_start G s230 v0).bind fun p234 =>
  some p234
noncomputable def fy_B_bytes_b3 (G : ai_G) (v0 : Nat) (v1 : Int32) (q : Int32 × yS) : Option ((Int32 × yS) ⊕ yS) :=
  if q.1 < 0 then (
    some (.inr q.2))
  else (
    (gR 0 3 q.2 v0).bind fun x8 =>
    (gI 0 5 q.2 v0).bind fun x12 =>
    (wB q.2 x8 x12 (Int8.toInt32 (Int32.toInt8 (v1 >>> (q.1 &&& 31))))).bind fun s19 =>
    (gI 0 5 s19 v0).bind fun x22 =>
    (wI 0 5 s19 v0 (x22 + 1)).bind fun s27 =>
    some (.inl ((q.1 + (-8)), s27)))
noncomputable def fy_B_bytes (G : ai_G) (s : yS) (v0 : Nat) (v1 : Int32) : Option (yS) :=
  (lp (fy_B_bytes_b3 G v0 v1) (24, s)).bind fun q3 =>
  some q3
noncomputable def fy_B_feed (G : ai_G) (s : yS) (v0 : Nat) (v1 : Int32) (v2 : Int32) (v3 : Int32) (v4 : Int32) (v5 : Int32) : Option (Int32 × yS) :=
  (gI 0 5 s v0).bind fun x1 =>
  if (x1 + 20) ≤ 1600 then (
    (ck 0 s v0).bind fun _ =>
    (fy_B_bytes G s v0 v1).bind fun p17 =>
    (ck 0 p17 v0).bind fun _ =>
    (fy_B_bytes G p17 v0 v2).bind fun p22 =>
    (ck 0 p22 v0).bind fun _ =>
    (fy_B_bytes G p22 v0 v3).bind fun p27 =>
    (ck 0 p27 v0).bind fun _ =>
    (fy_B_bytes G p27 v0 v4).bind fun p33 =>
    (ck 0 p33 v0).bind fun _ =>
    (fy_B_bytes G p33 v0 v5).bind fun p39 =>
    (gI 0 5 p39 v0).bind fun x43 =>
    some (x43, p39))
  else (
    some ((-1), s))
noncomputable def fy_B_end (G : ai_G) (s : yS) (v0 : Nat) (v1 : Int32) : Option (Int32 × yS) :=
  if v1 < 0 then (
    some ((-1), s))
  else (
    (gI 0 5 s v0).bind fun x6 =>
    if v1 ≤ x6 then (
      (wI 0 5 s v0 v1).bind fun s16 =>
      some (v1, s16))
    else (
      some ((-1), s)))
noncomputable def fy_Reader_init (G : ai_G) (s : yS) (v0 : Nat) (v1 : Nat) (v2 : Int32) (v3 : Nat) : Option (yS) :=
  (mk 1 s).bind fun s5 =>
  (fy_River_init G s5.2 s5.1).bind fun p9 =>
  (wR 8 3 p9 v0 (some s5.1)).bind fun s12 =>
  (wR 8 0 s12 v0 (some v1)).bind fun s17 =>
  (wI 8 1 s17 v0 v2).bind fun s22 =>
  (wR 8 2 s22 v0 (some v3)).bind fun s27 =>
  some s27
noncomputable def fy_Reader_sign (G : ai_G) (s : yS) (v0 : Nat) (v1 : Int32) : Option (Int32) :=
  (gI 8 1 s v0).bind fun x2 =>
  if x2 ≤ v1 then (
    some 0)
  else (
    (gR 8 0 s v0).bind fun x9 =>
    (aB G s x9 v1).bind fun x13 =>
    some (x13 &&& 255))
noncomputable def fy_Reader_isLetter (v0 : Int32) : Option (Int32) :=
  if v0 < 97 then (
    some 0)
  else (
    if 122 < v0 then (
      some 0)
    else (
      some 1))
noncomputable def fy_Reader_readWord_j71 (G : ai_G) (s : yS) (v0 : Nat) (t0 : Nat) (t1 : Int64) : Option (yS ⊕ yS) :=
  (wJ 8 8 s t0 t1).bind fun s71 =>
  (gI 8 5 s71 v0).bind fun x76 =>
  (wI 8 5 s71 v0 (x76 + 1)).bind fun s81 =>
  some (.inl s81)
noncomputable def fy_Reader_readWord_b18 (G : ai_G) (v0 : Nat) (q : yS) : Option (yS ⊕ yS) :=
  (gI 8 5 q v0).bind fun x20 =>
  (ck 8 q v0).bind fun _ =>
  (fy_Reader_sign G q v0 x20).bind fun p23 =>
  (fy_Reader_isLetter p23).bind fun p26 =>
  if p26 = 0 then (
    some (.inr q))
  else (
    (gI 8 5 q v0).bind fun x34 =>
    (gI 8 4 q v0).bind fun x38 =>
    if 8 ≤ (x34 - x38) then (
      (gJ 8 8 q v0).bind fun x68 =>
      fy_Reader_readWord_j71 G q v0 v0 x68)
    else (
      (gJ 8 8 q v0).bind fun x48 =>
      (gI 8 5 q v0).bind fun x56 =>
      (ck 8 q v0).bind fun _ =>
      (fy_Reader_sign G q v0 x56).bind fun p59 =>
      fy_Reader_readWord_j71 G q v0 v0 ((x48 <<< (Int32.toInt64 8 &&& 63)) ||| (Int32.toInt64 p59))))
noncomputable def fy_Reader_readWord (G : ai_G) (s : yS) (v0 : Nat) : Option (yS) :=
  (wI 8 6 s v0 1).bind fun s2 =>
  (wJ 8 8 s2 v0 0).bind fun s7 =>
  (gI 8 4 s7 v0).bind fun x12 =>
  (wI 8 5 s7 v0 x12).bind fun s15 =>
  (lp (fy_Reader_readWord_b18 G v0) s15).bind fun q18 =>
  (gI 8 5 q18 v0).bind fun x88 =>
  (gI 8 4 q18 v0).bind fun x92 =>
  if (x88 - x92) ≤ 8 then (
    some q18)
  else (
    (wI 8 6 q18 v0 4).bind fun s103 =>
    some s103)
noncomputable def fy_Reader_isDigit (v0 : Int32) : Option (Int32) :=
  if v0 < 48 then (
    some 0)
  else (
    if 57 < v0 then (
      some 0)
    else (
      some 1))
noncomputable def fy_Reader_readNumber_j72 (G : ai_G) (s : yS) (v0 : Nat) (t0 : Nat) (t1 : Int32) : Option (yS ⊕ yS) :=
  (wI 8 7 s t0 t1).bind fun s72 =>
  (gI 8 5 s72 v0).bind fun x77 =>
  (wI 8 5 s72 v0 (x77 + 1)).bind fun s82 =>
  some (.inl s82)
noncomputable def fy_Reader_readNumber_b18 (G : ai_G) (v0 : Nat) (q : yS) : Option (yS ⊕ yS) :=
  (gI 8 5 q v0).bind fun x20 =>
  (ck 8 q v0).bind fun _ =>
  (fy_Reader_sign G q v0 x20).bind fun p23 =>
  (fy_Reader_isDigit p23).bind fun p26 =>
  if p26 = 0 then (
    some (.inr q))
  else (
    (gI 8 5 q v0).bind fun x34 =>
    (gI 8 4 q v0).bind fun x38 =>
    if 4 ≤ (x34 - x38) then (
      (gI 8 7 q v0).bind fun x69 =>
      fy_Reader_readNumber_j72 G q v0 v0 x69)
    else (
      (gI 8 7 q v0).bind fun x49 =>
      (gI 8 5 q v0).bind fun x55 =>
      (ck 8 q v0).bind fun _ =>
      (fy_Reader_sign G q v0 x55).bind fun p58 =>
      fy_Reader_readNumber_j72 G q v0 v0 (((10 * x49) + p58) - 48)))
noncomputable def fy_Reader_readNumber (G : ai_G) (s : yS) (v0 : Nat) : Option (yS) :=
  (wI 8 6 s v0 2).bind fun s2 =>
  (wI 8 7 s2 v0 0).bind fun s7 =>
  (gI 8 4 s7 v0).bind fun x12 =>
  (wI 8 5 s7 v0 x12).bind fun s15 =>
  (lp (fy_Reader_readNumber_b18 G v0) s15).bind fun q18 =>
  (gI 8 5 q18 v0).bind fun x89 =>
  (gI 8 4 q18 v0).bind fun x93 =>
  if 4 < (x89 - x93) then (
    (wI 8 6 q18 v0 4).bind fun s117 =>
    some s117)
  else (
    (gI 8 5 q18 v0).bind fun x103 =>
    (ck 8 q18 v0).bind fun _ =>
    (fy_Reader_sign G q18 v0 x103).bind fun p106 =>
    (fy_Reader_isLetter p106).bind fun p109 =>
    if p109 = 0 then (
      some q18)
    else (
      (wI 8 6 q18 v0 4).bind fun s117 =>
      some s117))
noncomputable def fy_Reader_isSign (v0 : Int32) : Option (Int32) :=
  if v0 = 59 then (
    some 1)
  else (
    if v0 = 40 then (
      some 1)
    else (
      if v0 = 41 then (
        some 1)
      else (
        if v0 = 60 then (
          some 1)
        else (
          if v0 = 62 then (
            some 1)
          else (
            if v0 = 61 then (
              some 1)
            else (
              if v0 = 43 then (
                some 1)
              else (
                if v0 = 45 then (
                  some 1)
                else (
                  if v0 = 42 then (
                    some 1)
                  else (
                    if v0 = 47 then (
                      some 1)
                    else (
                      if v0 = 37 then (
                        some 1)
                      else (
                        some 0)))))))))))
noncomputable def fy_Reader_next_j45 (G : ai_G) (s : yS) (v0 : Nat) : Option (yS ⊕ yS) :=
  (gI 8 4 s v0).bind fun x47 =>
  (wI 8 4 s v0 (x47 + 1)).bind fun s52 =>
  some (.inl s52)
noncomputable def fy_Reader_next_b8 (G : ai_G) (v0 : Nat) (q : yS) : Option (yS ⊕ yS) :=
  (gI 8 4 q v0).bind fun x9 =>
  (gI 8 1 q v0).bind fun x13 =>
  if x13 ≤ x9 then (
    some (.inr q))
  else (
    (gI 8 4 q v0).bind fun x21 =>
    (ck 8 q v0).bind fun _ =>
    (fy_Reader_sign G q v0 x21).bind fun p24 =>
    if p24 = 32 then (
      fy_Reader_next_j45 G q v0)
    else (
      (gI 8 4 q v0).bind fun x34 =>
      (ck 8 q v0).bind fun _ =>
      (fy_Reader_sign G q v0 x34).bind fun p37 =>
      if p37 = 10 then (
        fy_Reader_next_j45 G q v0)
      else (
        some (.inr q))))
noncomputable def fy_Reader_next_j92 (G : ai_G) (s : yS) (v0 : Nat) (v1 : Int32) (t0 : Nat) (t1 : Int32) : Option (yS) :=
  (wI 8 5 s t0 t1).bind fun s92 =>
  (gI 8 4 s92 v0).bind fun x96 =>
  (gI 8 1 s92 v0).bind fun x100 =>
  if x96 < x100 then (
    (fy_Reader_isLetter v1).bind fun p115 =>
    if p115 = 0 then (
      (fy_Reader_isDigit v1).bind fun p129 =>
      if p129 = 0 then (
        (fy_Reader_isSign v1).bind fun p144 =>
        if p144 = 0 then (
          (wI 8 6 s92 v0 4).bind fun s155 =>
          some s155)
        else (
          (wI 8 6 s92 v0 3).bind fun s155 =>
          some s155))
      else (
        (ck 8 s92 v0).bind fun _ =>
        (fy_Reader_readNumber G s92 v0).bind fun p136 =>
        some p136))
    else (
      (ck 8 s92 v0).bind fun _ =>
      (fy_Reader_readWord G s92 v0).bind fun p122 =>
      some p122))
  else (
    (wI 8 6 s92 v0 0).bind fun s108 =>
    some s108)
noncomputable def fy_Reader_next_j58 (G : ai_G) (s : yS) (v0 : Nat) : Option (yS) :=
  (gI 8 4 s v0).bind fun x60 =>
  (ck 8 s v0).bind fun _ =>
  (fy_Reader_sign G s v0 x60).bind fun p63 =>
  (gI 8 4 s v0).bind fun x69 =>
  (gI 8 1 s v0).bind fun x73 =>
  if x73 ≤ x69 then (
    (gI 8 4 s v0).bind fun x89 =>
    fy_Reader_next_j92 G s v0 p63 v0 x89)
  else (
    (gI 8 4 s v0).bind fun x80 =>
    fy_Reader_next_j92 G s v0 p63 v0 (x80 + 1))
noncomputable def fy_Reader_next (G : ai_G) (s : yS) (v0 : Nat) : Option (yS) :=
  (gI 8 5 s v0).bind fun x2 =>
  (wI 8 4 s v0 x2).bind fun s5 =>
  (lp (fy_Reader_next_b8 G v0) s5).bind fun q8 =>
  fy_Reader_next_j58 G q8 v0
noncomputable def fy_J7_coder (G : ai_G) (s : yS) (v0 : Nat) : Option (Int32) :=
  (csI G 51).bind fun x0 =>
  if x0 = 0 then (
    if ai_fit .byte (.int 1) = true then some 1 else none)
  else (
    (gOI 1 G s v0).bind fun x7 =>
    if ai_fit .byte (.int x7) = true then some x7 else none)
noncomputable def fy_J7_length (G : ai_G) (s : yS) (v0 : Nat) : Option (Int32) :=
  (gOR 0 G s v0).bind fun x1 =>
  (aL G s x1).bind fun x4 =>
  (ckO G s v0).bind fun _ =>
  (fy_J7_coder G s v0).bind fun p6 =>
  some (x4 >>> (p6 &&& 31))
noncomputable def fy_J7_isLatin1 (G : ai_G) (s : yS) (v0 : Nat) : Option (Int32) :=
  (csI G 51).bind fun x0 =>
  if x0 = 0 then (
    some 0)
  else (
    (gOI 1 G s v0).bind fun x7 =>
    if x7 = 0 then (
      some 1)
    else (
      some 0))
noncomputable def fy_J7_checkIndex (G : ai_G) (s : yS) (v0 : Int32) (v1 : Int32) : Option (Unit) :=
  (cst G 52).bind fun x2 =>
  (fy_J6_checkIndex v0 v1).bind fun p5 =>
  some ()
noncomputable def fy_J8_charAt (G : ai_G) (s : yS) (v0 : Nat) (v1 : Int32) : Option (Int32) :=
  (aL G s v0).bind fun x2 =>
  (fy_J7_checkIndex G s v1 x2).bind fun p3 =>
  (aB G s v0 v1).bind fun x8 =>
  if ai_fit .char (.int (((Int32.toUInt32 (x8 &&& 255)) % 65536).toInt32)) = true then some (((Int32.toUInt32 (x8 &&& 255)) % 65536).toInt32) else none
noncomputable def fy_J7_charAt (G : ai_G) (s : yS) (v0 : Nat) (v1 : Int32) : Option (Int32) :=
  (ckO G s v0).bind fun _ =>
  (fy_J7_isLatin1 G s v0).bind fun p1 =>
  if p1 = 0 then (
    none)
  else (
    (gOR 0 G s v0).bind fun x8 =>
    (fy_J8_charAt G s x8 v1).bind fun p12 =>
    if ai_fit .char (.int p12) = true then some p12 else none)
noncomputable def fy_Reader_isWord_b28 (G : ai_G) (s : yS) (v0 : Nat) (v1 : Nat) (q : Int32) : Option (Int32 ⊕ Int32) :=
  (ckO G s v1).bind fun _ =>
  (fy_J7_length G s v1).bind fun p30 =>
  if p30 ≤ q then (
    some (.inr q))
  else (
    (gI 8 4 s v0).bind fun x38 =>
    (ck 8 s v0).bind fun _ =>
    (fy_Reader_sign G s v0 (x38 + q)).bind fun p43 =>
    (ckO G s v1).bind fun _ =>
    (fy_J7_charAt G s v1 q).bind fun p48 =>
    if p43 = p48 then (
      some (.inl (q + 1)))
    else (
      some (.inr q)))
noncomputable def fy_Reader_isWord_j60 (G : ai_G) (s : yS) (v1 : Nat) (v2 : Int32) : Option (Int32) :=
  (ckO G s v1).bind fun _ =>
  (fy_J7_length G s v1).bind fun p62 =>
  if v2 = p62 then (
    some 1)
  else (
    some 0)
noncomputable def fy_Reader_isWord (G : ai_G) (s : yS) (v0 : Nat) (v1 : Nat) : Option (Int32) :=
  (gI 8 6 s v0).bind fun x1 =>
  if x1 = 1 then (
    (gI 8 5 s v0).bind fun x9 =>
    (gI 8 4 s v0).bind fun x13 =>
    (ckO G s v1).bind fun _ =>
    (fy_J7_length G s v1).bind fun p18 =>
    if (x9 - x13) = p18 then (
      (lp (fy_Reader_isWord_b28 G s v0 v1) 0).bind fun q28 =>
      fy_Reader_isWord_j60 G s v1 q28)
    else (
      some 0))
  else (
    some 0)
noncomputable def fy_Reader_canLine (G : ai_G) (s : yS) (v0 : Nat) : Option (Int32) :=
  (cst G 0).bind fun x1 =>
  (ck 8 s v0).bind fun _ =>
  (fy_Reader_isWord G s v0 x1).bind fun p4 =>
  if p4 = 0 then (
    (cst G 1).bind fun x27 =>
    (ck 8 s v0).bind fun _ =>
    (fy_Reader_isWord G s v0 x27).bind fun p30 =>
    if p30 = 0 then (
      (cst G 2).bind fun x55 =>
      (ck 8 s v0).bind fun _ =>
      (fy_Reader_isWord G s v0 x55).bind fun p58 =>
      if p58 = 0 then (
        (cst G 3).bind fun x83 =>
        (ck 8 s v0).bind fun _ =>
        (fy_Reader_isWord G s v0 x83).bind fun p86 =>
        if p86 = 0 then (
          (cst G 4).bind fun x113 =>
          (ck 8 s v0).bind fun _ =>
          (fy_Reader_isWord G s v0 x113).bind fun p116 =>
          if p116 = 0 then (
            (cst G 5).bind fun x144 =>
            (ck 8 s v0).bind fun _ =>
            (fy_Reader_isWord G s v0 x144).bind fun p147 =>
            if p147 = 0 then (
              (cst G 6).bind fun x170 =>
              (ck 8 s v0).bind fun _ =>
              (fy_Reader_isWord G s v0 x170).bind fun p173 =>
              if p173 = 0 then (
                (cst G 7).bind fun x198 =>
                (ck 8 s v0).bind fun _ =>
                (fy_Reader_isWord G s v0 x198).bind fun p201 =>
                if p201 = 0 then (
                  some 0)
                else (
                  (gR 8 3 s v0).bind fun x208 =>
                  (gI 1 7 s x208).bind fun x211 =>
                  if x211 = 0 then (
                    some 1)
                  else (
                    some 0)))
              else (
                (gR 8 3 s v0).bind fun x180 =>
                (gI 1 6 s x180).bind fun x183 =>
                if x183 = 0 then (
                  some 1)
                else (
                  some 0)))
            else (
              (gR 8 3 s v0).bind fun x154 =>
              (gN 1 5 s x154).bind fun x157 =>
              if x157 = none then (
                some 1)
              else (
                some 0)))
          else (
            (gR 8 3 s v0).bind fun x123 =>
            (gR 1 1 s x123).bind fun x126 =>
            (ck 16 s x126).bind fun _ =>
            (fy_List_size G s x126).bind fun p129 =>
            if 7 ≤ p129 then (
              some 0)
            else (
              some 1)))
        else (
          (gR 8 3 s v0).bind fun x93 =>
          (gR 1 0 s x93).bind fun x96 =>
          (ck 16 s x96).bind fun _ =>
          (fy_List_size G s x96).bind fun p99 =>
          if 4 ≤ p99 then (
            some 0)
          else (
            some 1)))
      else (
        (gR 8 3 s v0).bind fun x65 =>
        (gI 1 12 s x65).bind fun x68 =>
        if 6 ≤ x68 then (
          some 0)
        else (
          some 1)))
    else (
      (gR 8 3 s v0).bind fun x37 =>
      (gI 1 11 s x37).bind fun x40 =>
      if 16 ≤ x40 then (
        some 0)
      else (
        some 1)))
  else (
    (gR 8 3 s v0).bind fun x11 =>
    (gI 1 10 s x11).bind fun x14 =>
    if x14 = 0 then (
      some 1)
    else (
      some 0))
noncomputable def fy_Wrong_by (G : ai_G) (s : yS) (v0 : Nat) (v1 : Int32) (v2 : Int32) : Option (Nat × yS) :=
  (wI 3 0 s v0 v1).bind fun s2 =>
  (wI 3 1 s2 v0 v2).bind fun s7 =>
  some (v0, s7)
noncomputable def fy_Reader_wrong (G : ai_G) (s : yS) (v0 : Nat) : Option (Nat × yS) :=
  (gR 8 2 s v0).bind fun x1 =>
  (gI 8 6 s v0).bind fun x5 =>
  if x5 = 4 then (
    (gI 8 4 s v0).bind fun x18 =>
    (ck 3 s x1).bind fun _ =>
    (fy_Wrong_by G s x1 1 x18).bind fun p21 =>
    some (p21.1, p21.2))
  else (
    (gI 8 4 s v0).bind fun x18 =>
    (ck 3 s x1).bind fun _ =>
    (fy_Wrong_by G s x1 2 x18).bind fun p21 =>
    some (p21.1, p21.2))
noncomputable def fy_Reader_comes (G : ai_G) (s : yS) (v0 : Nat) (v1 : Nat) : Option (Int32 × yS) :=
  (ck 8 s v0).bind fun _ =>
  (fy_Reader_isWord G s v0 v1).bind fun p2 =>
  if p2 = 0 then (
    if p2 = 0 ∨ p2 = 1 then some (p2, s) else none)
  else (
    (ck 8 s v0).bind fun _ =>
    (fy_Reader_next G s v0).bind fun p11 =>
    if p2 = 0 ∨ p2 = 1 then some (p2, p11) else none)
noncomputable def fy_Reader_number (G : ai_G) (s : yS) (v0 : Nat) (v1 : Int32) (v2 : Int32) : Option ((Nat ⊕ Int32) × yS) :=
  (gI 8 6 s v0).bind fun x1 =>
  if x1 = 2 then (
    (gI 8 7 s v0).bind fun x14 =>
    if x14 < v1 then (
      (gR 8 2 s v0).bind fun x30 =>
      (gI 8 4 s v0).bind fun x35 =>
      (ck 3 s x30).bind fun _ =>
      (fy_Wrong_by G s x30 4 x35).bind fun p38 =>
      (ck 3 p38.2 p38.1).bind fun _ =>
      some (.inl p38.1, p38.2))
    else (
      (gI 8 7 s v0).bind fun x22 =>
      if x22 ≤ v2 then (
        (gI 8 7 s v0).bind fun x43 =>
        (ck 8 s v0).bind fun _ =>
        (fy_Reader_next G s v0).bind fun p48 =>
        some (.inr x43, p48))
      else (
        (gR 8 2 s v0).bind fun x30 =>
        (gI 8 4 s v0).bind fun x35 =>
        (ck 3 s x30).bind fun _ =>
        (fy_Wrong_by G s x30 4 x35).bind fun p38 =>
        (ck 3 p38.2 p38.1).bind fun _ =>
        some (.inl p38.1, p38.2))))
  else (
    (ck 8 s v0).bind fun _ =>
    (fy_Reader_wrong G s v0).bind fun p9 =>
    (ck 3 p9.2 p9.1).bind fun _ =>
    some (.inl p9.1, p9.2))
noncomputable def fy_Reader_must (G : ai_G) (s : yS) (v0 : Nat) (v1 : Int32) : Option ((Nat ⊕ Unit) × yS) :=
  if v1 = 0 then (
    (ck 8 s v0).bind fun _ =>
    (fy_Reader_wrong G s v0).bind fun p5 =>
    (ck 3 p5.2 p5.1).bind fun _ =>
    some (.inl p5.1, p5.2))
  else (
    (ck 8 s v0).bind fun _ =>
    (fy_Reader_next G s v0).bind fun p10 =>
    some (.inr (), p10))
noncomputable def fy_Reader_after (G : ai_G) (s : yS) (v0 : Nat) (v1 : Nat) (v2 : Int32) (v3 : Int32) : Option ((Nat ⊕ Int32) × yS) :=
  (ck 8 s v0).bind fun _ =>
  (fy_Reader_isWord G s v0 v1).bind fun p3 =>
  (ck 8 s v0).bind fun _ =>
  (fy_Reader_must G s v0 p3).bind fun p6 => Sum.elim (fun q6 => some (.inl q6, p6.2)) (fun _ =>
    (ck 8 p6.2 v0).bind fun _ =>
    (fy_Reader_number G p6.2 v0 v2 v3).bind fun p12 => Sum.elim (fun q12 => some (.inl q12, p12.2)) (fun v12 =>
      some (.inr v12, p12.2)) p12.1) p6.1
noncomputable def fy_River_cell (G : ai_G) (s : yS) (v0 : Nat) (v1 : Int32) (v2 : Int32) : Option (Int32) :=
  some ((8 * v2) + v1)
noncomputable def fy_Reader_cell (G : ai_G) (s : yS) (v0 : Nat) (v1 : Int32) (v2 : Int32) (v3 : Nat) : Option ((Nat ⊕ Int32) × yS) :=
  (gR 8 3 s v0).bind fun x3 =>
  (gI 1 8 s x3).bind fun x6 =>
  (ck 8 s v0).bind fun _ =>
  (fy_Reader_number G s v0 0 (x6 - 1)).bind fun p11 => Sum.elim (fun q11 => some (.inl q11, p11.2)) (fun v11 =>
    (gI 8 4 p11.2 v0).bind fun x17 =>
    (gR 8 3 p11.2 v0).bind fun x23 =>
    (ck 8 p11.2 v0).bind fun _ =>
    (fy_Reader_number G p11.2 v0 v1 v2).bind fun p31 => Sum.elim (fun q31 => some (.inl q31, p31.2)) (fun v31 =>
      (ck 1 p31.2 x23).bind fun _ =>
      (fy_River_cell G p31.2 x23 v11 v31).bind fun p34 =>
      (aB G p31.2 v3 p34).bind fun x42 =>
      if x42 = 0 then (
        (wB p31.2 v3 p34 1).bind fun s61 =>
        some (.inr p34, s61))
      else (
        (gR 8 2 p31.2 v0).bind fun x47 =>
        (ck 3 p31.2 x47).bind fun _ =>
        (fy_Wrong_by G p31.2 x47 3 x17).bind fun p53 =>
        (ck 3 p53.2 p53.1).bind fun _ =>
        some (.inl p53.1, p53.2))) p31.1) p11.1
noncomputable def fy_Reader_current (G : ai_G) (s : yS) (v0 : Nat) : Option ((Nat ⊕ Unit) × yS) :=
  (ck 8 s v0).bind fun _ =>
  (fy_Reader_number G s v0 0 7).bind fun p4 => Sum.elim (fun q4 => some (.inl q4, p4.2)) (fun v4 =>
    (cst G 9).bind fun x10 =>
    (ck 8 p4.2 v0).bind fun _ =>
    (fy_Reader_isWord G p4.2 v0 x10).bind fun p12 =>
    (ck 8 p4.2 v0).bind fun _ =>
    (fy_Reader_must G p4.2 v0 p12).bind fun p15 => Sum.elim (fun q15 => some (.inl q15, p15.2)) (fun _ =>
      (gR 8 3 p15.2 v0).bind fun x19 =>
      (gR 1 2 p15.2 x19).bind fun x22 =>
      (gR 8 3 p15.2 v0).bind fun x28 =>
      (gI 1 9 p15.2 x28).bind fun x31 =>
      (gR 8 3 p15.2 v0).bind fun x37 =>
      (gR 1 3 p15.2 x37).bind fun x40 =>
      (ck 8 p15.2 v0).bind fun _ =>
      (fy_Reader_cell G p15.2 v0 0 (x31 - 1) x40).bind fun p43 => Sum.elim (fun q43 => some (.inl q43, p43.2)) (fun v43 =>
        (wA p43.2 x22 v43 v4).bind fun s47 =>
        (gR 8 3 s47 v0).bind fun x49 =>
        (gI 1 11 s47 x49).bind fun x53 =>
        (wI 1 11 s47 x49 (x53 + 1)).bind fun s58 =>
        some (.inr (), s58)) p43.1) p15.1) p4.1
noncomputable def fy_Reader_iron (G : ai_G) (s : yS) (v0 : Nat) : Option ((Nat ⊕ Unit) × yS) :=
  (gR 8 3 s v0).bind fun x3 =>
  (gI 1 9 s x3).bind fun x6 =>
  (gR 8 3 s v0).bind fun x12 =>
  (gR 1 4 s x12).bind fun x15 =>
  (ck 8 s v0).bind fun _ =>
  (fy_Reader_cell G s v0 1 (x6 - 1) x15).bind fun p18 => Sum.elim (fun q18 => some (.inl q18, p18.2)) (fun v18 =>
    (gR 8 3 p18.2 v0).bind fun x23 =>
    (gI 1 12 p18.2 x23).bind fun x27 =>
    (wI 1 12 p18.2 x23 (x27 + 1)).bind fun s32 =>
    some (.inr (), s32)) p18.1
noncomputable def fy_Reader_which_b2 (G : ai_G) (s : yS) (v0 : Nat) (v1 : Nat) (q : Int32) : Option (Int32 ⊕ (Unit ⊕ Int32)) :=
  (aL G s v1).bind fun x4 =>
  if x4 ≤ q then (
    some (.inr (.inl ())))
  else (
    (aE G s v1 q).bind fun x11 =>
    (ck 8 s v0).bind fun _ =>
    (fy_Reader_isWord G s v0 x11).bind fun p12 =>
    if p12 = 0 then (
      some (.inl (q + 1)))
    else (
      some (.inr (.inr q))))
noncomputable def fy_Reader_which (G : ai_G) (s : yS) (v0 : Nat) (v1 : Nat) : Option (Int32) :=
  (lp (fy_Reader_which_b2 G s v0 v1) 0).bind (Sum.elim (fun q2 =>
    some (-1)) (fun q2r => some q2r))
noncomputable def fy_Itr_init (G : ai_G) (s : yS) (v0 : Nat) (v1 : Nat) : Option (yS) :=
  (wR 17 3 s v0 (some v1)).bind fun s2 =>
  (wI 17 1 s2 v0 (-1)).bind fun s11 =>
  (gR 17 3 s11 v0).bind fun x16 =>
  (gI 16 0 s11 x16).bind fun x19 =>
  (wI 17 2 s11 v0 x19).bind fun s22 =>
  some s22
noncomputable def fy_List_iterator (G : ai_G) (s : yS) (v0 : Nat) : Option (Nat × yS) :=
  (mk 17 s).bind fun s0 =>
  (fy_Itr_init G s0.2 s0.1 v0).bind fun p5 =>
  some (s0.1, p5)
noncomputable def fy_Itr_hasNext (G : ai_G) (s : yS) (v0 : Nat) : Option (Int32) :=
  (gI 17 0 s v0).bind fun x1 =>
  (gR 17 3 s v0).bind fun x5 =>
  (gI 16 2 s x5).bind fun x8 =>
  if x1 = x8 then (
    some 0)
  else (
    some 1)
noncomputable def fy_Itr_checkForComodification (G : ai_G) (s : yS) (v0 : Nat) : Option (Unit) :=
  (gR 17 3 s v0).bind fun x1 =>
  (gI 16 0 s x1).bind fun x4 =>
  (gI 17 2 s v0).bind fun x8 =>
  if x4 = x8 then (
    some ())
  else (
    none)
noncomputable def fy_Itr_next (G : ai_G) (s : yS) (v0 : Nat) : Option (Nat × yS) :=
  (ck 17 s v0).bind fun _ =>
  (fy_Itr_checkForComodification G s v0).bind fun p1 =>
  (gI 17 0 s v0).bind fun x5 =>
  (gR 17 3 s v0).bind fun x11 =>
  (gI 16 2 s x11).bind fun x14 =>
  if x5 < x14 then (
    (gR 17 3 s v0).bind fun x29 =>
    (gR 16 1 s x29).bind fun x32 =>
    (aL G s x32).bind fun x38 =>
    if x5 < x38 then (
      (wI 17 0 s v0 (x5 + 1)).bind fun s54 =>
      (wI 17 1 s54 v0 x5).bind fun s61 =>
      (aE G s61 x32 x5).bind fun x64 =>
      some (x64, s61))
    else (
      none))
  else (
    none)
noncomputable def fy_Reader_fresh_b28 (G : ai_G) (v0 : Nat) (v2 : Nat) (q : yS) : Option (yS ⊕ (yS ⊕ ((Nat ⊕ Int64) × yS))) :=
  (ck 17 q v2).bind fun _ =>
  (fy_Itr_hasNext G q v2).bind fun p29 =>
  if p29 = 0 then (
    some (.inr (.inl q)))
  else (
    (ck 17 q v2).bind fun _ =>
    (fy_Itr_next G q v2).bind fun p38 =>
    (ck2 9 10 p38.2 p38.1).bind fun _ =>
    (gJ2 9 10 0 p38.2 p38.1).bind fun x48 =>
    (gJ 8 8 p38.2 v0).bind fun x52 =>
    if (lg_cmp x48 x52) = 0 then (
      (gR 8 2 p38.2 v0).bind fun x60 =>
      (gI 8 4 p38.2 v0).bind fun x65 =>
      (ck 3 p38.2 x60).bind fun _ =>
      (fy_Wrong_by G p38.2 x60 3 x65).bind fun p68 =>
      (ck 3 p68.2 p68.1).bind fun _ =>
      some (.inr (.inr (.inl p68.1, p68.2))))
    else (
      some (.inl p38.2)))
noncomputable def fy_Reader_fresh (G : ai_G) (s : yS) (v0 : Nat) (v1 : Nat) : Option ((Nat ⊕ Int64) × yS) :=
  (gI 8 6 s v0).bind fun x1 =>
  if x1 = 1 then (
    (cst G 53).bind fun x9 =>
    (ck 8 s v0).bind fun _ =>
    (fy_Reader_which G s v0 x9).bind fun p12 =>
    if p12 < 0 then (
      (ck 16 s v1).bind fun _ =>
      (fy_List_iterator G s v1).bind fun p24 =>
      (lp (fy_Reader_fresh_b28 G v0 p24.1) p24.2).bind (Sum.elim (fun q28 =>
        (gJ 8 8 q28 v0).bind fun x76 =>
        (ck 8 q28 v0).bind fun _ =>
        (fy_Reader_next G q28 v0).bind fun p81 =>
        some (.inr x76, p81)) (fun q28r => some q28r)))
    else (
      (ck 8 s v0).bind fun _ =>
      (fy_Reader_wrong G s v0).bind fun p19 =>
      (ck 3 p19.2 p19.1).bind fun _ =>
      some (.inl p19.1, p19.2)))
  else (
    (ck 8 s v0).bind fun _ =>
    (fy_Reader_wrong G s v0).bind fun p19 =>
    (ck 3 p19.2 p19.1).bind fun _ =>
    some (.inl p19.1, p19.2))
noncomputable def fy_Called_init (G : ai_G) (s : yS) (v0 : Nat) (v1 : Int64) : Option (yS) :=
  (wJ2 9 10 0 s v0 v1).bind fun s6 =>
  some s6
noncomputable def fy_Board_init (G : ai_G) (s : yS) (v0 : Nat) (v1 : Int64) : Option (yS) :=
  (fy_Called_init G s v0 v1).bind fun p2 =>
  (wI 9 3 p2 v0 20).bind fun s8 =>
  some s8
noncomputable def fy_J11_hugeLength (v0 : Int32) (v1 : Int32) : Option (Int32) :=
  if 0 ≤ (v0 + v1) then (
    if 2147483639 < (v0 + v1) then (
      some (v0 + v1))
    else (
      some 2147483639))
  else (
    none)
noncomputable def fy_J11_newLength (v0 : Int32) (v1 : Int32) (v2 : Int32) : Option (Int32) :=
  if (v0 + (imax v1 v2)) ≤ 0 then (
    (fy_J11_hugeLength v0 v1).bind fun p23 =>
    some p23)
  else (
    if 2147483639 < (v0 + (imax v1 v2)) then (
      (fy_J11_hugeLength v0 v1).bind fun p23 =>
      some p23)
    else (
      some (v0 + (imax v1 v2))))
noncomputable def fy_J13_copyOf_2 (G : ai_G) (s : yS) (v0 : Nat) (v1 : Int32) (v2 : Nat) : Option (Nat × yS) :=
  (cst G 40).bind fun x1 =>
  if v2 = x1 then (
    (mka 4 s v1).bind fun s7 =>
    (aL G s7.2 v0).bind fun x30 =>
    (cpE s7.2 v0 0 s7.1 0 (imin x30 v1)).bind fun s35 =>
    some (s7.1, s35))
  else (
    none)
noncomputable def fy_J13_copyOf (G : ai_G) (s : yS) (v0 : Nat) (v1 : Int32) : Option (Nat × yS) :=
  (ckA s v0).bind fun _ =>
  (cst G 40).bind fun x3 =>
  (fy_J13_copyOf_2 G s v0 v1 x3).bind fun p6 =>
  some (p6.1, p6.2)
noncomputable def fy_List_grow_2_j20 (G : ai_G) (s : yS) (v0 : Nat) (v1 : Int32) (v2 : Int32) : Option (Nat × yS) :=
  (fy_J11_newLength v2 (v1 - v2) (v2 >>> (1 &&& 31))).bind fun p27 =>
  (gR 16 1 s v0).bind fun x33 =>
  (fy_J13_copyOf G s x33 p27).bind fun p37 =>
  (wR 16 1 p37.2 v0 (some p37.1)).bind fun s41 =>
  some (p37.1, s41)
noncomputable def fy_List_grow_2 (G : ai_G) (s : yS) (v0 : Nat) (v1 : Int32) : Option (Nat × yS) :=
  (gR 16 1 s v0).bind fun x1 =>
  (aL G s x1).bind fun x4 =>
  if 0 < x4 then (
    fy_List_grow_2_j20 G s v0 v1 x4)
  else (
    (gR 16 1 s v0).bind fun x11 =>
    (cst G 50).bind fun x14 =>
    if x11 = x14 then (
      (mka 4 s (imax 10 v1)).bind fun s52 =>
      (wR 16 1 s52.2 v0 (some s52.1)).bind fun s56 =>
      some (s52.1, s56))
    else (
      fy_List_grow_2_j20 G s v0 v1 x4))
noncomputable def fy_List_grow (G : ai_G) (s : yS) (v0 : Nat) : Option (Nat × yS) :=
  (gI 16 2 s v0).bind fun x2 =>
  (ck 16 s v0).bind fun _ =>
  (fy_List_grow_2 G s v0 (x2 + 1)).bind fun p7 =>
  some (p7.1, p7.2)
noncomputable def fy_List_add_2_j11 (G : ai_G) (s : yS) (v0 : Nat) (v1 : Nat) (v2 : Nat) (v3 : Int32) : Option (yS) :=
  (wE s v2 v3 (some v1)).bind fun s14 =>
  (wI 16 2 s14 v0 (v3 + 1)).bind fun s19 =>
  some s19
noncomputable def fy_List_add_2 (G : ai_G) (s : yS) (v0 : Nat) (v1 : Nat) (v2 : Nat) (v3 : Int32) : Option (yS) :=
  (aL G s v2).bind fun x2 =>
  if v3 = x2 then (
    (ck 16 s v0).bind fun _ =>
    (fy_List_grow G s v0).bind fun p7 =>
    fy_List_add_2_j11 G p7.2 v0 v1 p7.1 v3)
  else (
    fy_List_add_2_j11 G s v0 v1 v2 v3)
noncomputable def fy_List_add (G : ai_G) (s : yS) (v0 : Nat) (v1 : Nat) : Option (Int32 × yS) :=
  (gI 16 0 s v0).bind fun x2 =>
  (wI 16 0 s v0 (x2 + 1)).bind fun s7 =>
  (gR 16 1 s7 v0).bind fun x13 =>
  (gI 16 2 s7 v0).bind fun x17 =>
  (ck 16 s7 v0).bind fun _ =>
  (fy_List_add_2 G s7 v0 v1 x13 x17).bind fun p20 =>
  some (1, p20)
noncomputable def fy_Reader_board (G : ai_G) (s : yS) (v0 : Nat) : Option ((Nat ⊕ Unit) × yS) :=
  (mk 9 s).bind fun s0 =>
  (gR 8 3 s0.2 v0).bind fun x6 =>
  (gR 1 0 s0.2 x6).bind fun x9 =>
  (ck 8 s0.2 v0).bind fun _ =>
  (fy_Reader_fresh G s0.2 v0 x9).bind fun p12 => Sum.elim (fun q12 => some (.inl q12, p12.2)) (fun v12 =>
    (fy_Board_init G p12.2 s0.1 v12).bind fun p15 =>
    (cst G 10).bind fun x21 =>
    (ck 8 p15 v0).bind fun _ =>
    (fy_Reader_after G p15 v0 x21 0 99).bind fun p26 => Sum.elim (fun q26 => some (.inl q26, p26.2)) (fun v26 =>
      (wI 9 1 p26.2 s0.1 v26).bind fun s29 =>
      (cst G 9).bind fun x34 =>
      (gR 8 3 s29 v0).bind fun x38 =>
      (gI 1 8 s29 x38).bind fun x41 =>
      (ck 8 s29 v0).bind fun _ =>
      (fy_Reader_after G s29 v0 x34 0 (x41 - 1)).bind fun p46 => Sum.elim (fun q46 => some (.inl q46, p46.2)) (fun v46 =>
        (wI 9 2 p46.2 s0.1 v46).bind fun s49 =>
        (cst G 11).bind fun x53 =>
        (ck 8 s49 v0).bind fun _ =>
        (fy_Reader_comes G s49 v0 x53).bind fun p55 =>
        if p55.1 = 0 then (
          (gR 8 3 p55.2 v0).bind fun x73 =>
          (gR 1 0 p55.2 x73).bind fun x76 =>
          (ck 16 p55.2 x76).bind fun _ =>
          (fy_List_add G p55.2 x76 s0.1).bind fun p80 =>
          some (.inr (), p80.2))
        else (
          (ck 8 p55.2 v0).bind fun _ =>
          (fy_Reader_number G p55.2 v0 0 99).bind fun p66 => Sum.elim (fun q66 => some (.inl q66, p66.2)) (fun v66 =>
            (wI 9 3 p66.2 s0.1 v66).bind fun s69 =>
            (gR 8 3 s69 v0).bind fun x73 =>
            (gR 1 0 s69 x73).bind fun x76 =>
            (ck 16 s69 x76).bind fun _ =>
            (fy_List_add G s69 x76 s0.1).bind fun p80 =>
            some (.inr (), p80.2)) p66.1)) p46.1) p26.1) p12.1
noncomputable def fy_Load_init (G : ai_G) (s : yS) (v0 : Nat) (v1 : Int64) : Option (yS) :=
  (fy_Called_init G s v0 v1).bind fun p2 =>
  some p2
noncomputable def fy_Reader_load (G : ai_G) (s : yS) (v0 : Nat) : Option ((Nat ⊕ Unit) × yS) :=
  (mk 10 s).bind fun s0 =>
  (gR 8 3 s0.2 v0).bind fun x6 =>
  (gR 1 1 s0.2 x6).bind fun x9 =>
  (ck 8 s0.2 v0).bind fun _ =>
  (fy_Reader_fresh G s0.2 v0 x9).bind fun p12 => Sum.elim (fun q12 => some (.inl q12, p12.2)) (fun v12 =>
    (fy_Load_init G p12.2 s0.1 v12).bind fun p15 =>
    (cst G 10).bind fun x21 =>
    (ck 8 p15 v0).bind fun _ =>
    (fy_Reader_after G p15 v0 x21 0 99).bind fun p26 => Sum.elim (fun q26 => some (.inl q26, p26.2)) (fun v26 =>
      (wI 10 1 p26.2 s0.1 v26).bind fun s29 =>
      (gR 8 3 s29 v0).bind fun x33 =>
      (gR 1 1 s29 x33).bind fun x36 =>
      (ck 16 s29 x36).bind fun _ =>
      (fy_List_add G s29 x36 s0.1).bind fun p40 =>
      some (.inr (), p40.2)) p26.1) p12.1
noncomputable def fy_Reader_open (G : ai_G) (s : yS) (v0 : Nat) : Option ((Nat ⊕ Unit) × yS) :=
  (gI 8 9 s v0).bind fun x1 =>
  if x1 = 7 then (
    (ck 8 s v0).bind fun _ =>
    (fy_Reader_wrong G s v0).bind fun p10 =>
    (ck 3 p10.2 p10.1).bind fun _ =>
    some (.inl p10.1, p10.2))
  else (
    (gI 8 9 s v0).bind fun x16 =>
    (wI 8 9 s v0 (x16 + 1)).bind fun s21 =>
    (ck 8 s21 v0).bind fun _ =>
    (fy_Reader_next G s21 v0).bind fun p25 =>
    some (.inr (), p25))
noncomputable def fy_Part_init (G : ai_G) (s : yS) (v0 : Nat) : Option (Unit) :=
  some ()
noncomputable def fy_Not_init (G : ai_G) (s : yS) (v0 : Nat) (v1 : Nat) : Option (yS) :=
  (fy_Part_init G s v0).bind fun p1 =>
  (wR 11 0 s v0 (some v1)).bind fun s6 =>
  some s6
noncomputable def fy_Reader_isSignHere (G : ai_G) (s : yS) (v0 : Nat) (v1 : Int32) : Option (Int32) :=
  (gI 8 6 s v0).bind fun x1 =>
  if x1 = 3 then (
    (gI 8 4 s v0).bind fun x10 =>
    (ck 8 s v0).bind fun _ =>
    (fy_Reader_sign G s v0 x10).bind fun p13 =>
    if p13 = v1 then (
      some 1)
    else (
      some 0))
  else (
    some 0)
noncomputable def fy_Numeral_init (G : ai_G) (s : yS) (v0 : Nat) (v1 : Int32) : Option (yS) :=
  (fy_Part_init G s v0).bind fun p1 =>
  (wI 12 0 s v0 v1).bind fun s6 =>
  some s6
noncomputable def fy_Named_init (G : ai_G) (s : yS) (v0 : Nat) (v1 : Int32) : Option (yS) :=
  (fy_Part_init G s v0).bind fun p1 =>
  (wI 13 0 s v0 v1).bind fun s6 =>
  some s6
noncomputable def fy_Reader_unit_j31 (G : ai_G) (rE rO : yS → Nat → Option ((Nat ⊕ Nat) × yS)) (s : yS) (v0 : Nat) (v1 : Int32) (v2 : Int32) : Option ((Nat ⊕ Nat) × yS) :=
  (gR 8 3 s v0).bind fun x32 =>
  (gI 1 13 s x32).bind fun x35 =>
  if x35 = 60 then (
    (ck 8 s v0).bind fun _ =>
    (fy_Reader_wrong G s v0).bind fun p53 =>
    (ck 3 p53.2 p53.1).bind fun _ =>
    some (.inl p53.1, p53.2))
  else (
    (gI 8 10 s v0).bind fun x44 =>
    if x44 = 30 then (
      (ck 8 s v0).bind fun _ =>
      (fy_Reader_wrong G s v0).bind fun p53 =>
      (ck 3 p53.2 p53.1).bind fun _ =>
      some (.inl p53.1, p53.2))
    else (
      (gR 8 3 s v0).bind fun x58 =>
      (gI 1 13 s x58).bind fun x62 =>
      (wI 1 13 s x58 (x62 + 1)).bind fun s67 =>
      (gI 8 10 s67 v0).bind fun x72 =>
      (wI 8 10 s67 v0 (x72 + 1)).bind fun s77 =>
      if v1 = 0 then (
        if 0 ≤ v2 then (
          (mk 13 s77).bind fun s133 =>
          (fy_Named_init G s133.2 s133.1 v2).bind fun p138 =>
          (ck 8 p138 v0).bind fun _ =>
          (fy_Reader_next G p138 v0).bind fun p143 =>
          some (.inr s133.1, p143))
        else (
          (mk 12 s77).bind fun s119 =>
          (gI 8 7 s119.2 v0).bind fun x124 =>
          (fy_Numeral_init G s119.2 s119.1 x124).bind fun p127 =>
          (ck 8 p127 v0).bind fun _ =>
          (fy_Reader_next G p127 v0).bind fun p143 =>
          some (.inr s119.1, p143)))
      else (
        (ck 8 s77 v0).bind fun _ =>
        (fy_Reader_open G s77 v0).bind fun p85 => Sum.elim (fun q85 => some (.inl q85, p85.2)) (fun _ =>
          (ck 8 p85.2 v0).bind fun _ =>
          (rE p85.2 v0).bind fun p89 => Sum.elim (fun q89 => some (.inl q89, p89.2)) (fun v89 =>
            (gI 8 9 p89.2 v0).bind fun x95 =>
            (wI 8 9 p89.2 v0 (x95 - 1)).bind fun s100 =>
            (ck 8 s100 v0).bind fun _ =>
            (fy_Reader_isSignHere G s100 v0 41).bind fun p107 =>
            (ck 8 s100 v0).bind fun _ =>
            (fy_Reader_must G s100 v0 p107).bind fun p110 => Sum.elim (fun q110 => some (.inl q110, p110.2)) (fun _ =>
              some (.inr v89, p110.2)) p110.1) p89.1) p85.1)))
noncomputable def fy_Reader_unit (G : ai_G) (rE rO : yS → Nat → Option ((Nat ⊕ Nat) × yS)) (s : yS) (v0 : Nat) : Option ((Nat ⊕ Nat) × yS) :=
  (ck 8 s v0).bind fun _ =>
  (fy_Reader_isSignHere G s v0 40).bind fun p3 =>
  (cst G 54).bind fun x8 =>
  (ck 8 s v0).bind fun _ =>
  (fy_Reader_which G s v0 x8).bind fun p11 =>
  if p3 = 0 then (
    if 0 ≤ p11 then (
      fy_Reader_unit_j31 G rE rO s v0 p3 p11)
    else (
      (gI 8 6 s v0).bind fun x24 =>
      if x24 = 2 then (
        fy_Reader_unit_j31 G rE rO s v0 p3 p11)
      else (
        (ck 8 s v0).bind fun _ =>
        (fy_Reader_wrong G s v0).bind fun p53 =>
        (ck 3 p53.2 p53.1).bind fun _ =>
        some (.inl p53.1, p53.2))))
  else (
    fy_Reader_unit_j31 G rE rO s v0 p3 p11)
noncomputable def fy_Two_init (G : ai_G) (s : yS) (v0 : Nat) (v1 : Int32) (v2 : Nat) (v3 : Nat) : Option (yS) :=
  (fy_Part_init G s v0).bind fun p1 =>
  (wI 14 0 s v0 v1).bind fun s6 =>
  (wR 14 1 s6 v0 (some v2)).bind fun s11 =>
  (wR 14 2 s11 v0 (some v3)).bind fun s16 =>
  some s16
noncomputable def fy_Reader_term_j32 (G : ai_G) (rE rO : yS → Nat → Option ((Nat ⊕ Nat) × yS)) (s : yS) (v0 : Nat) (v1 : Nat) : Option ((Nat × yS) ⊕ ((Nat × yS) ⊕ ((Nat ⊕ Nat) × yS))) :=
  (gI 8 4 s v0).bind fun x34 =>
  (ck 8 s v0).bind fun _ =>
  (fy_Reader_sign G s v0 x34).bind fun p37 =>
  (ck 8 s v0).bind fun _ =>
  (fy_Reader_next G s v0).bind fun p42 =>
  (mk 14 p42).bind fun s45 =>
  (ck 8 s45.2 v0).bind fun _ =>
  (fy_Reader_unit G rE rO s45.2 v0).bind fun p52 => Sum.elim (fun q52 => some (.inr (.inr (.inl q52, p52.2)))) (fun v52 =>
    (fy_Two_init G p52.2 s45.1 p37 v1 v52).bind fun p55 =>
    some (.inl (s45.1, p55))) p52.1
noncomputable def fy_Reader_term_b5 (G : ai_G) (rE rO : yS → Nat → Option ((Nat ⊕ Nat) × yS)) (v0 : Nat) (q : Nat × yS) : Option ((Nat × yS) ⊕ ((Nat × yS) ⊕ ((Nat ⊕ Nat) × yS))) :=
  (ck 8 q.2 v0).bind fun _ =>
  (fy_Reader_isSignHere G q.2 v0 42).bind fun p8 =>
  if p8 = 0 then (
    (ck 8 q.2 v0).bind fun _ =>
    (fy_Reader_isSignHere G q.2 v0 47).bind fun p17 =>
    if p17 = 0 then (
      (ck 8 q.2 v0).bind fun _ =>
      (fy_Reader_isSignHere G q.2 v0 37).bind fun p26 =>
      if p26 = 0 then (
        some (.inr (.inl (q.1, q.2))))
      else (
        fy_Reader_term_j32 G rE rO q.2 v0 q.1))
    else (
      fy_Reader_term_j32 G rE rO q.2 v0 q.1))
  else (
    fy_Reader_term_j32 G rE rO q.2 v0 q.1)
noncomputable def fy_Reader_term (G : ai_G) (rE rO : yS → Nat → Option ((Nat ⊕ Nat) × yS)) (s : yS) (v0 : Nat) : Option ((Nat ⊕ Nat) × yS) :=
  (ck 8 s v0).bind fun _ =>
  (fy_Reader_unit G rE rO s v0).bind fun p1 => Sum.elim (fun q1 => some (.inl q1, p1.2)) (fun v1 =>
    (lp (fy_Reader_term_b5 G rE rO v0) (v1, p1.2)).bind (Sum.elim (fun q5 =>
      some (.inr q5.1, q5.2)) (fun q5r => some q5r))) p1.1
noncomputable def fy_Reader_sum_j23 (G : ai_G) (rE rO : yS → Nat → Option ((Nat ⊕ Nat) × yS)) (s : yS) (v0 : Nat) (v1 : Nat) : Option ((Nat × yS) ⊕ ((Nat × yS) ⊕ ((Nat ⊕ Nat) × yS))) :=
  (gI 8 4 s v0).bind fun x25 =>
  (ck 8 s v0).bind fun _ =>
  (fy_Reader_sign G s v0 x25).bind fun p28 =>
  (ck 8 s v0).bind fun _ =>
  (fy_Reader_next G s v0).bind fun p33 =>
  (mk 14 p33).bind fun s36 =>
  (ck 8 s36.2 v0).bind fun _ =>
  (fy_Reader_term G rE rO s36.2 v0).bind fun p43 => Sum.elim (fun q43 => some (.inr (.inr (.inl q43, p43.2)))) (fun v43 =>
    (fy_Two_init G p43.2 s36.1 p28 v1 v43).bind fun p46 =>
    some (.inl (s36.1, p46))) p43.1
noncomputable def fy_Reader_sum_b5 (G : ai_G) (rE rO : yS → Nat → Option ((Nat ⊕ Nat) × yS)) (v0 : Nat) (q : Nat × yS) : Option ((Nat × yS) ⊕ ((Nat × yS) ⊕ ((Nat ⊕ Nat) × yS))) :=
  (ck 8 q.2 v0).bind fun _ =>
  (fy_Reader_isSignHere G q.2 v0 43).bind fun p8 =>
  if p8 = 0 then (
    (ck 8 q.2 v0).bind fun _ =>
    (fy_Reader_isSignHere G q.2 v0 45).bind fun p17 =>
    if p17 = 0 then (
      some (.inr (.inl (q.1, q.2))))
    else (
      fy_Reader_sum_j23 G rE rO q.2 v0 q.1))
  else (
    fy_Reader_sum_j23 G rE rO q.2 v0 q.1)
noncomputable def fy_Reader_sum (G : ai_G) (rE rO : yS → Nat → Option ((Nat ⊕ Nat) × yS)) (s : yS) (v0 : Nat) : Option ((Nat ⊕ Nat) × yS) :=
  (ck 8 s v0).bind fun _ =>
  (fy_Reader_term G rE rO s v0).bind fun p1 => Sum.elim (fun q1 => some (.inl q1, p1.2)) (fun v1 =>
    (lp (fy_Reader_sum_b5 G rE rO v0) (v1, p1.2)).bind (Sum.elim (fun q5 =>
      some (.inr q5.1, q5.2)) (fun q5r => some q5r))) p1.1
noncomputable def fy_Reader_one_j71 (G : ai_G) (rE rO : yS → Nat → Option ((Nat ⊕ Nat) × yS)) (s : yS) (v0 : Nat) (v1 : Nat) : Option ((Nat ⊕ Nat) × yS) :=
  (gI 8 4 s v0).bind fun x73 =>
  (ck 8 s v0).bind fun _ =>
  (fy_Reader_sign G s v0 x73).bind fun p76 =>
  (ck 8 s v0).bind fun _ =>
  (fy_Reader_next G s v0).bind fun p81 =>
  (mk 14 p81).bind fun s84 =>
  (ck 8 s84.2 v0).bind fun _ =>
  (fy_Reader_sum G rE rO s84.2 v0).bind fun p91 => Sum.elim (fun q91 => some (.inl q91, p91.2)) (fun v91 =>
    (fy_Two_init G p91.2 s84.1 p76 v1 v91).bind fun p94 =>
    some (.inr s84.1, p94)) p91.1
noncomputable def fy_Reader_one (G : ai_G) (rE rO : yS → Nat → Option ((Nat ⊕ Nat) × yS)) (s : yS) (v0 : Nat) : Option ((Nat ⊕ Nat) × yS) :=
  (cst G 12).bind fun x1 =>
  (ck 8 s v0).bind fun _ =>
  (fy_Reader_isWord G s v0 x1).bind fun p3 =>
  if p3 = 0 then (
    (ck 8 s v0).bind fun _ =>
    (fy_Reader_sum G rE rO s v0).bind fun p38 => Sum.elim (fun q38 => some (.inl q38, p38.2)) (fun v38 =>
      (ck 8 p38.2 v0).bind fun _ =>
      (fy_Reader_isSignHere G p38.2 v0 60).bind fun p45 =>
      if p45 = 0 then (
        (ck 8 p38.2 v0).bind fun _ =>
        (fy_Reader_isSignHere G p38.2 v0 62).bind fun p54 =>
        if p54 = 0 then (
          (ck 8 p38.2 v0).bind fun _ =>
          (fy_Reader_isSignHere G p38.2 v0 61).bind fun p63 =>
          if p63 = 0 then (
            some (.inr v38, p38.2))
          else (
            fy_Reader_one_j71 G rE rO p38.2 v0 v38))
        else (
          fy_Reader_one_j71 G rE rO p38.2 v0 v38))
      else (
        fy_Reader_one_j71 G rE rO p38.2 v0 v38)) p38.1)
  else (
    (ck 8 s v0).bind fun _ =>
    (fy_Reader_open G s v0).bind fun p10 => Sum.elim (fun q10 => some (.inl q10, p10.2)) (fun _ =>
      (mk 11 p10.2).bind fun s13 =>
      (ck 8 s13.2 v0).bind fun _ =>
      (rO s13.2 v0).bind fun p18 => Sum.elim (fun q18 => some (.inl q18, p18.2)) (fun v18 =>
        (fy_Not_init G p18.2 s13.1 v18).bind fun p21 =>
        (gI 8 9 p21 v0).bind fun x27 =>
        (wI 8 9 p21 v0 (x27 - 1)).bind fun s32 =>
        some (.inr s13.1, s32)) p18.1) p10.1)
noncomputable def fy_Reader_both_b5 (G : ai_G) (rE rO : yS → Nat → Option ((Nat ⊕ Nat) × yS)) (v0 : Nat) (q : Nat × yS) : Option ((Nat × yS) ⊕ ((Nat × yS) ⊕ ((Nat ⊕ Nat) × yS))) :=
  (cst G 13).bind fun x6 =>
  (ck 8 q.2 v0).bind fun _ =>
  (fy_Reader_comes G q.2 v0 x6).bind fun p8 =>
  if p8.1 = 0 then (
    some (.inr (.inl (q.1, p8.2))))
  else (
    (mk 14 p8.2).bind fun s14 =>
    (ck 8 s14.2 v0).bind fun _ =>
    (fy_Reader_one G rE rO s14.2 v0).bind fun p22 => Sum.elim (fun q22 => some (.inr (.inr (.inl q22, p22.2)))) (fun v22 =>
      (fy_Two_init G p22.2 s14.1 38 q.1 v22).bind fun p25 =>
      some (.inl (s14.1, p25))) p22.1)
noncomputable def fy_Reader_both (G : ai_G) (rE rO : yS → Nat → Option ((Nat ⊕ Nat) × yS)) (s : yS) (v0 : Nat) : Option ((Nat ⊕ Nat) × yS) :=
  (ck 8 s v0).bind fun _ =>
  (fy_Reader_one G rE rO s v0).bind fun p1 => Sum.elim (fun q1 => some (.inl q1, p1.2)) (fun v1 =>
    (lp (fy_Reader_both_b5 G rE rO v0) (v1, p1.2)).bind (Sum.elim (fun q5 =>
      some (.inr q5.1, q5.2)) (fun q5r => some q5r))) p1.1
noncomputable def fy_Reader_either_b5 (G : ai_G) (rE rO : yS → Nat → Option ((Nat ⊕ Nat) × yS)) (v0 : Nat) (q : Nat × yS) : Option ((Nat × yS) ⊕ ((Nat × yS) ⊕ ((Nat ⊕ Nat) × yS))) :=
  (cst G 14).bind fun x6 =>
  (ck 8 q.2 v0).bind fun _ =>
  (fy_Reader_comes G q.2 v0 x6).bind fun p8 =>
  if p8.1 = 0 then (
    some (.inr (.inl (q.1, p8.2))))
  else (
    (mk 14 p8.2).bind fun s14 =>
    (ck 8 s14.2 v0).bind fun _ =>
    (fy_Reader_both G rE rO s14.2 v0).bind fun p22 => Sum.elim (fun q22 => some (.inr (.inr (.inl q22, p22.2)))) (fun v22 =>
      (fy_Two_init G p22.2 s14.1 124 q.1 v22).bind fun p25 =>
      some (.inl (s14.1, p25))) p22.1)
noncomputable def fy_Reader_either (G : ai_G) (rE rO : yS → Nat → Option ((Nat ⊕ Nat) × yS)) (s : yS) (v0 : Nat) : Option ((Nat ⊕ Nat) × yS) :=
  (ck 8 s v0).bind fun _ =>
  (fy_Reader_both G rE rO s v0).bind fun p1 => Sum.elim (fun q1 => some (.inl q1, p1.2)) (fun v1 =>
    (lp (fy_Reader_either_b5 G rE rO v0) (v1, p1.2)).bind (Sum.elim (fun q5 =>
      some (.inr q5.1, q5.2)) (fun q5r => some q5r))) p1.1
noncomputable def fy_ei (G : ai_G) : Nat → (yS → Nat → Option ((Nat ⊕ Nat) × yS)) × (yS → Nat → Option ((Nat ⊕ Nat) × yS))
  | 0 => (fun _ _ => none, fun _ _ => none)
  | n + 1 => (fy_Reader_either G (fy_ei G n).1 (fy_ei G n).2, fy_Reader_one G (fy_ei G n).1 (fy_ei G n).2)
noncomputable def fy_Reader_formula (G : ai_G) (s : yS) (v0 : Nat) : Option ((Nat ⊕ Nat) × yS) :=
  (wI 8 10 s v0 0).bind fun s2 =>
  (wI 8 9 s2 v0 0).bind fun s7 =>
  (ck 8 s7 v0).bind fun _ =>
  ((fy_ei G 9).1 s7 v0).bind fun p11 => Sum.elim (fun q11 => some (.inl q11, p11.2)) (fun v11 =>
    some (.inr v11, p11.2)) p11.1
noncomputable def fy_Reader_line (G : ai_G) (s : yS) (v0 : Nat) : Option ((Nat ⊕ Unit) × yS) :=
  (ck 8 s v0).bind fun _ =>
  (fy_Reader_canLine G s v0).bind fun p1 =>
  if p1 = 0 then (
    (ck 8 s v0).bind fun _ =>
    (fy_Reader_wrong G s v0).bind fun p8 =>
    (ck 3 p8.2 p8.1).bind fun _ =>
    some (.inl p8.1, p8.2))
  else (
    (gR 8 3 s v0).bind fun x13 =>
    (gI 1 10 s x13).bind fun x17 =>
    (wI 1 10 s x13 (x17 + 1)).bind fun s22 =>
    (cst G 0).bind fun x26 =>
    (ck 8 s22 v0).bind fun _ =>
    (fy_Reader_comes G s22 v0 x26).bind fun p29 =>
    if p29.1 = 0 then (
      (cst G 1).bind fun x70 =>
      (ck 8 p29.2 v0).bind fun _ =>
      (fy_Reader_comes G p29.2 v0 x70).bind fun p73 =>
      if p73.1 = 0 then (
        (cst G 2).bind fun x87 =>
        (ck 8 p73.2 v0).bind fun _ =>
        (fy_Reader_comes G p73.2 v0 x87).bind fun p90 =>
        if p90.1 = 0 then (
          (cst G 3).bind fun x104 =>
          (ck 8 p90.2 v0).bind fun _ =>
          (fy_Reader_comes G p90.2 v0 x104).bind fun p107 =>
          if p107.1 = 0 then (
            (cst G 4).bind fun x121 =>
            (ck 8 p107.2 v0).bind fun _ =>
            (fy_Reader_comes G p107.2 v0 x121).bind fun p124 =>
            if p124.1 = 0 then (
              (cst G 5).bind fun x138 =>
              (ck 8 p124.2 v0).bind fun _ =>
              (fy_Reader_comes G p124.2 v0 x138).bind fun p141 =>
              if p141.1 = 0 then (
                (cst G 6).bind fun x162 =>
                (ck 8 p141.2 v0).bind fun _ =>
                (fy_Reader_comes G p141.2 v0 x162).bind fun p165 =>
                if p165.1 = 0 then (
                  (ck 8 p165.2 v0).bind fun _ =>
                  (fy_Reader_next G p165.2 v0).bind fun p197 =>
                  (gR 8 3 p197 v0).bind fun x201 =>
                  (wZ 1 7 p197 x201 1).bind fun s205 =>
                  (gR 8 3 s205 v0).bind fun x209 =>
                  (ck 8 s205 v0).bind fun _ =>
                  (fy_Reader_number G s205 v0 0 999).bind fun p217 => Sum.elim (fun q217 => some (.inl q217, p217.2)) (fun v217 =>
                    (wI 1 15 p217.2 x209 v217).bind fun s220 =>
                    some (.inr (), s220)) p217.1)
                else (
                  (gR 8 3 p165.2 v0).bind fun x172 =>
                  (wZ 1 6 p165.2 x172 1).bind fun s176 =>
                  (gR 8 3 s176 v0).bind fun x180 =>
                  (ck 8 s176 v0).bind fun _ =>
                  (fy_Reader_number G s176 v0 0 100).bind fun p187 => Sum.elim (fun q187 => some (.inl q187, p187.2)) (fun v187 =>
                    (wI 1 14 p187.2 x180 v187).bind fun s190 =>
                    some (.inr (), s190)) p187.1))
              else (
                (gR 8 3 p141.2 v0).bind fun x148 =>
                (ck 8 p141.2 v0).bind fun _ =>
                (fy_Reader_formula G p141.2 v0).bind fun p152 => Sum.elim (fun q152 => some (.inl q152, p152.2)) (fun v152 =>
                  (wR 1 5 p152.2 x148 (some v152)).bind fun s155 =>
                  some (.inr (), s155)) p152.1))
            else (
              (ck 8 p124.2 v0).bind fun _ =>
              (fy_Reader_load G p124.2 v0).bind fun p131 => Sum.elim (fun q131 => some (.inl q131, p131.2)) (fun _ =>
                some (.inr (), p131.2)) p131.1))
          else (
            (ck 8 p107.2 v0).bind fun _ =>
            (fy_Reader_board G p107.2 v0).bind fun p114 => Sum.elim (fun q114 => some (.inl q114, p114.2)) (fun _ =>
              some (.inr (), p114.2)) p114.1))
        else (
          (ck 8 p90.2 v0).bind fun _ =>
          (fy_Reader_iron G p90.2 v0).bind fun p97 => Sum.elim (fun q97 => some (.inl q97, p97.2)) (fun _ =>
            some (.inr (), p97.2)) p97.1))
      else (
        (ck 8 p73.2 v0).bind fun _ =>
        (fy_Reader_current G p73.2 v0).bind fun p80 => Sum.elim (fun q80 => some (.inl q80, p80.2)) (fun _ =>
          some (.inr (), p80.2)) p80.1))
    else (
      (gR 8 3 p29.2 v0).bind fun x36 =>
      (ck 8 p29.2 v0).bind fun _ =>
      (fy_Reader_number G p29.2 v0 1 8).bind fun p43 => Sum.elim (fun q43 => some (.inl q43, p43.2)) (fun v43 =>
        (wI 1 8 p43.2 x36 v43).bind fun s46 =>
        (gR 8 3 s46 v0).bind fun x50 =>
        (cst G 8).bind fun x54 =>
        (ck 8 s46 v0).bind fun _ =>
        (fy_Reader_after G s46 v0 x54 1 6).bind fun p60 => Sum.elim (fun q60 => some (.inl q60, p60.2)) (fun v60 =>
          (wI 1 9 p60.2 x50 v60).bind fun s63 =>
          some (.inr (), s63)) p60.1) p43.1))
noncomputable def fy_Reader_read_b4 (G : ai_G) (v0 : Nat) (q : yS) : Option (yS ⊕ (yS ⊕ ((Nat ⊕ Nat) × yS))) :=
  (gI 8 6 q v0).bind fun x5 =>
  if x5 = 0 then (
    some (.inr (.inl q)))
  else (
    (ck 8 q v0).bind fun _ =>
    (fy_Reader_line G q v0).bind fun p12 => Sum.elim (fun q12 => some (.inr (.inr (.inl q12, p12.2)))) (fun _ =>
      (ck 8 p12.2 v0).bind fun _ =>
      (fy_Reader_isSignHere G p12.2 v0 59).bind fun p19 =>
      (ck 8 p12.2 v0).bind fun _ =>
      (fy_Reader_must G p12.2 v0 p19).bind fun p22 => Sum.elim (fun q22 => some (.inr (.inr (.inl q22, p22.2)))) (fun _ =>
        some (.inl p22.2)) p22.1) p12.1)
noncomputable def fy_Reader_read (G : ai_G) (s : yS) (v0 : Nat) : Option ((Nat ⊕ Nat) × yS) :=
  (ck 8 s v0).bind fun _ =>
  (fy_Reader_next G s v0).bind fun p1 =>
  (lp (fy_Reader_read_b4 G v0) p1).bind (Sum.elim (fun q4 =>
    (gR 8 3 q4 v0).bind fun x29 =>
    some (.inr x29, q4)) (fun q4r => some q4r))
noncomputable def fy_B_boards (G : ai_G) (s : yS) (v0 : Nat) : Option (Int32) :=
  (gR 0 0 s v0).bind fun x1 =>
  (gR 1 0 s x1).bind fun x4 =>
  (ck 16 s x4).bind fun _ =>
  (fy_List_size G s x4).bind fun p7 =>
  some p7
noncomputable def fy_B_river (G : ai_G) (s : yS) (v0 : Nat) : Option (Int32 × yS) :=
  (gI 0 5 s v0).bind fun x1 =>
  (wI 0 5 s v0 0).bind fun s7 =>
  (wI 0 7 s7 v0 0).bind fun s12 =>
  (wI 0 8 s12 v0 (-1)).bind fun s17 =>
  (mk 8 s17).bind fun s21 =>
  (gR 0 3 s21.2 v0).bind fun x26 =>
  (gR 0 4 s21.2 v0).bind fun x31 =>
  (fy_Reader_init G s21.2 s21.1 x26 x1 x31).bind fun p34 =>
  (ck 8 p34 s21.1).bind fun _ =>
  (fy_Reader_read G p34 s21.1).bind fun p37 => Sum.elim (fun q37 =>
    (gI 3 0 p37.2 q37).bind fun x49 =>
    (wI 0 7 p37.2 v0 x49).bind fun s52 =>
    (gI 3 1 s52 q37).bind fun x57 =>
    (wI 0 8 s52 v0 x57).bind fun s60 =>
    some ((-1), s60)) (fun v37 =>
    (wR 0 0 p37.2 v0 (some v37)).bind fun s40 =>
    (ck 0 s40 v0).bind fun _ =>
    (fy_B_start G s40 v0).bind fun p66 =>
    (ck 0 p66 v0).bind fun _ =>
    (fy_B_boards G p66 v0).bind fun p70 =>
    some (p70, p66)) p37.1
noncomputable def fy_B_fault (G : ai_G) (s : yS) (v0 : Nat) (v1 : Int32) : Option (Int32) :=
  if v1 = 0 then (
    (gI 0 7 s v0).bind fun x5 =>
    some x5)
  else (
    if v1 = 1 then (
      (gI 0 8 s v0).bind fun x17 =>
      some x17)
    else (
      some (-1)))
noncomputable def fy_B_isIn (v0 : Int32) (v1 : Int32) (v2 : Int32) : Option (Int32) :=
  if v0 < v1 then (
    some 0)
  else (
    if v2 < v0 then (
      some 0)
    else (
      some 1))
noncomputable def fy_B_isBoard (G : ai_G) (s : yS) (v0 : Nat) (v1 : Int32) : Option (Int32) :=
  (ck 0 s v0).bind fun _ =>
  (fy_B_boards G s v0).bind fun p3 =>
  (fy_B_isIn v1 0 (p3 - 1)).bind fun p8 =>
  if p8 = 0 ∨ p8 = 1 then some p8 else none
noncomputable def fy_State_loadsAt_b5 (G : ai_G) (s : yS) (v0 : Nat) (v1 : Nat) (v2 : Int32) (q : Int32 × Int32) : Option ((Int32 × Int32) ⊕ Int32) :=
  (gR 1 1 s v1).bind fun x8 =>
  (ck 16 s x8).bind fun _ =>
  (fy_List_size G s x8).bind fun p11 =>
  if p11 ≤ q.2 then (
    some (.inr q.1))
  else (
    (gR 2 5 s v0).bind fun x18 =>
    (aI s x18 q.2).bind fun x23 =>
    if x23 = v2 then (
      some (.inl ((q.1 ||| (1 <<< (q.2 &&& 31))), (q.2 + 1))))
    else (
      some (.inl (q.1, (q.2 + 1)))))
noncomputable def fy_State_loadsAt (G : ai_G) (s : yS) (v0 : Nat) (v1 : Nat) (v2 : Int32) : Option (Int32) :=
  (lp (fy_State_loadsAt_b5 G s v0 v1 v2) (0, 0)).bind fun q5 =>
  some q5
noncomputable def fy_River_has (v0 : Int32) (v1 : Int32) : Option (Int32) :=
  if ((v0 >>> (v1 &&& 31)) &&& 1) = 1 then (
    some 1)
  else (
    some 0)
noncomputable def fy_River_widthOf_b4 (G : ai_G) (s : yS) (v0 : Nat) (v1 : Int32) (q : Int32 × Int32) : Option ((Int32 × Int32) ⊕ Int32) :=
  (gR 1 1 s v0).bind fun x6 =>
  (ck 16 s x6).bind fun _ =>
  (fy_List_size G s x6).bind fun p9 =>
  if p9 ≤ q.2 then (
    some (.inr q.1))
  else (
    (fy_River_has v1 q.2).bind fun p18 =>
    if p18 = 0 then (
      some (.inl ((q.1 + 0), (q.2 + 1))))
    else (
      (gR 1 1 s v0).bind fun x25 =>
      (ck 16 s x25).bind fun _ =>
      (fy_List_get G s x25 q.2).bind fun p29 =>
      (ck 10 s p29).bind fun _ =>
      (gI 10 1 s p29).bind fun x35 =>
      some (.inl ((q.1 + x35), (q.2 + 1)))))
noncomputable def fy_River_widthOf (G : ai_G) (s : yS) (v0 : Nat) (v1 : Int32) : Option (Int32) :=
  (lp (fy_River_widthOf_b4 G s v0 v1) (0, 0)).bind fun q4 =>
  some q4
noncomputable def fy_State_burden (G : ai_G) (s : yS) (v0 : Nat) (v1 : Nat) (v2 : Int32) : Option (Int32) :=
  (ck 2 s v0).bind fun _ =>
  (fy_State_loadsAt G s v0 v1 v2).bind fun p4 =>
  (ck 1 s v1).bind fun _ =>
  (fy_River_widthOf G s v1 p4).bind fun p7 =>
  some p7
noncomputable def fy_B_board (G : ai_G) (s : yS) (v0 : Nat) (v1 : Int32) (v2 : Int32) : Option (Int32) :=
  (ck 0 s v0).bind fun _ =>
  (fy_B_isBoard G s v0 v1).bind fun p2 =>
  if p2 = 0 then (
    some (-1))
  else (
    (gR 0 0 s v0).bind fun x11 =>
    (gR 1 0 s x11).bind fun x14 =>
    (ck 16 s x14).bind fun _ =>
    (fy_List_get G s x14 v1).bind fun p18 =>
    (ck 9 s p18).bind fun _ =>
    if v2 = 0 then (
      (gR 0 1 s v0).bind fun x77 =>
      (gR 2 0 s x77).bind fun x80 =>
      (aI s x80 v1).bind fun x84 =>
      some x84)
    else if v2 = 1 then (
      (gR 0 1 s v0).bind fun x87 =>
      (gR 2 1 s x87).bind fun x90 =>
      (aI s x90 v1).bind fun x94 =>
      some x94)
    else if v2 = 2 then (
      (gR 0 1 s v0).bind fun x97 =>
      (gR 2 2 s x97).bind fun x100 =>
      (aI s x100 v1).bind fun x104 =>
      some x104)
    else if v2 = 3 then (
      (gR 0 1 s v0).bind fun x107 =>
      (gR 2 3 s x107).bind fun x110 =>
      (aI s x110 v1).bind fun x114 =>
      some x114)
    else if v2 = 4 then (
      (gR 0 1 s v0).bind fun x117 =>
      (gR 2 4 s x117).bind fun x120 =>
      (aI s x120 v1).bind fun x124 =>
      some x124)
    else if v2 = 5 then (
      (gI 9 1 s p18).bind fun x127 =>
      some x127)
    else if v2 = 6 then (
      (gI 9 3 s p18).bind fun x132 =>
      some x132)
    else if v2 = 7 then (
      (gR 0 1 s v0).bind fun x137 =>
      (gR 0 0 s v0).bind fun x141 =>
      (ck 2 s x137).bind fun _ =>
      (fy_State_burden G s x137 x141 v1).bind fun p145 =>
      some p145)
    else if v2 = 8 then (
      (gR 0 1 s v0).bind fun x150 =>
      (gR 0 0 s v0).bind fun x154 =>
      (ck 2 s x150).bind fun _ =>
      (fy_State_loadsAt G s x150 x154 v1).bind fun p158 =>
      some p158)
    else (
      some (-1)))
noncomputable def fy_B_loads (G : ai_G) (s : yS) (v0 : Nat) : Option (Int32) :=
  (gR 0 0 s v0).bind fun x1 =>
  (gR 1 1 s x1).bind fun x4 =>
  (ck 16 s x4).bind fun _ =>
  (fy_List_size G s x4).bind fun p7 =>
  some p7
noncomputable def fy_B_isLoad (G : ai_G) (s : yS) (v0 : Nat) (v1 : Int32) : Option (Int32) :=
  (ck 0 s v0).bind fun _ =>
  (fy_B_loads G s v0).bind fun p3 =>
  (fy_B_isIn v1 0 (p3 - 1)).bind fun p8 =>
  if p8 = 0 ∨ p8 = 1 then some p8 else none
noncomputable def fy_B_load (G : ai_G) (s : yS) (v0 : Nat) (v1 : Int32) (v2 : Int32) : Option (Int32) :=
  (ck 0 s v0).bind fun _ =>
  (fy_B_isLoad G s v0 v1).bind fun p2 =>
  if p2 = 0 then (
    some (-3))
  else (
    if v2 = 0 then (
      (gR 0 0 s v0).bind fun x18 =>
      (gR 1 1 s x18).bind fun x21 =>
      (ck 16 s x21).bind fun _ =>
      (fy_List_get G s x21 v1).bind fun p25 =>
      (ck 10 s p25).bind fun _ =>
      (gI 10 1 s p25).bind fun x31 =>
      some x31)
    else (
      if v2 = 1 then (
        (gR 0 1 s v0).bind fun x43 =>
        (gR 2 5 s x43).bind fun x46 =>
        (aI s x46 v1).bind fun x50 =>
        some x50)
      else (
        some (-3))))
noncomputable def fy_B_spot (G : ai_G) (s : yS) (v0 : Nat) (v1 : Int32) (v2 : Int32) (v3 : Int32) : Option (Int32) :=
  (gR 0 0 s v0).bind fun x3 =>
  (gI 1 8 s x3).bind fun x6 =>
  (fy_B_isIn v1 0 (x6 - 1)).bind fun p11 =>
  if p11 = 0 then (
    some (-1))
  else (
    (gR 0 0 s v0).bind fun x20 =>
    (gI 1 9 s x20).bind fun x23 =>
    (fy_B_isIn v2 0 x23).bind fun p26 =>
    if p26 = 0 then (
      some (-1))
    else (
      if v3 = 0 then (
        (gR 0 0 s v0).bind fun x39 =>
        (gR 1 2 s x39).bind fun x42 =>
        (gR 0 0 s v0).bind fun x46 =>
        (ck 1 s x46).bind fun _ =>
        (fy_River_cell G s x46 v1 v2).bind fun p51 =>
        (aI s x42 p51).bind fun x54 =>
        some x54)
      else (
        if v3 = 1 then (
          (gR 0 0 s v0).bind fun x64 =>
          (gR 1 4 s x64).bind fun x67 =>
          (gR 0 0 s v0).bind fun x71 =>
          (ck 1 s x71).bind fun _ =>
          (fy_River_cell G s x71 v1 v2).bind fun p76 =>
          (aB G s x67 p76).bind fun x79 =>
          if x79 = 0 then (
            some 0)
          else (
            some 1))
        else (
          some (-1)))))
noncomputable def fy_Numeral_of (G : ai_G) (s : yS) (v0 : Nat) (v1 : Nat) : Option (Int32) :=
  (gI 12 0 s v0).bind fun x1 =>
  some x1
noncomputable def fy_Named_of (G : ai_G) (s : yS) (v0 : Nat) (v1 : Nat) : Option (Int32) :=
  (gI 13 0 s v0).bind fun x2 =>
  (aI s v1 x2).bind fun x5 =>
  some x5
noncomputable def fy_Two_is (v0 : Int32) : Option (Int32) :=
  if v0 = 0 then (
    some 0)
  else (
    some 1)
noncomputable def fy_Two_of (G : ai_G) (fof : yS → Nat → Nat → Option Int32) (s : yS) (v0 : Nat) (v1 : Nat) : Option (Int32) :=
  (gR 14 1 s v0).bind fun x1 =>
  (fof s x1 v1).bind fun p5 =>
  (gR 14 2 s v0).bind fun x10 =>
  (fof s x10 v1).bind fun p14 =>
  (gI 14 0 s v0).bind fun x19 =>
  if x19 = 37 then (
    if p14 = 0 then (
      some 0)
    else (
      (rm p5 p14).bind fun x174 =>
      some x174))
  else if x19 = 38 then (
    if p5 = 0 then (
      (fy_Two_is 0).bind fun p231 =>
      some p231)
    else (
      if p14 = 0 then (
        (fy_Two_is 0).bind fun p231 =>
        some p231)
      else (
        (fy_Two_is 1).bind fun p231 =>
        some p231)))
  else if x19 = 39 then (
    if p5 = 0 then (
      if p14 = 0 then (
        (fy_Two_is 0).bind fun p248 =>
        some p248)
      else (
        (fy_Two_is 1).bind fun p248 =>
        some p248))
    else (
      (fy_Two_is 1).bind fun p248 =>
      some p248))
  else if x19 = 40 then (
    if p5 = 0 then (
      if p14 = 0 then (
        (fy_Two_is 0).bind fun p248 =>
        some p248)
      else (
        (fy_Two_is 1).bind fun p248 =>
        some p248))
    else (
      (fy_Two_is 1).bind fun p248 =>
      some p248))
  else if x19 = 41 then (
    if p5 = 0 then (
      if p14 = 0 then (
        (fy_Two_is 0).bind fun p248 =>
        some p248)
      else (
        (fy_Two_is 1).bind fun p248 =>
        some p248))
    else (
      (fy_Two_is 1).bind fun p248 =>
      some p248))
  else if x19 = 42 then (
    some (p5 * p14))
  else if x19 = 43 then (
    some (p5 + p14))
  else if x19 = 44 then (
    if p5 = 0 then (
      if p14 = 0 then (
        (fy_Two_is 0).bind fun p248 =>
        some p248)
      else (
        (fy_Two_is 1).bind fun p248 =>
        some p248))
    else (
      (fy_Two_is 1).bind fun p248 =>
      some p248))
  else if x19 = 45 then (
    some (p5 - p14))
  else if x19 = 46 then (
    if p5 = 0 then (
      if p14 = 0 then (
        (fy_Two_is 0).bind fun p248 =>
        some p248)
      else (
        (fy_Two_is 1).bind fun p248 =>
        some p248))
    else (
      (fy_Two_is 1).bind fun p248 =>
      some p248))
  else if x19 = 47 then (
    if p14 = 0 then (
      some 0)
    else (
      (dv p5 p14).bind fun x162 =>
      some x162))
  else if x19 = 48 then (
    if p5 = 0 then (
      if p14 = 0 then (
        (fy_Two_is 0).bind fun p248 =>
        some p248)
      else (
        (fy_Two_is 1).bind fun p248 =>
        some p248))
    else (
      (fy_Two_is 1).bind fun p248 =>
      some p248))
  else if x19 = 49 then (
    if p5 = 0 then (
      if p14 = 0 then (
        (fy_Two_is 0).bind fun p248 =>
        some p248)
      else (
        (fy_Two_is 1).bind fun p248 =>
        some p248))
    else (
      (fy_Two_is 1).bind fun p248 =>
      some p248))
  else if x19 = 50 then (
    if p5 = 0 then (
      if p14 = 0 then (
        (fy_Two_is 0).bind fun p248 =>
        some p248)
      else (
        (fy_Two_is 1).bind fun p248 =>
        some p248))
    else (
      (fy_Two_is 1).bind fun p248 =>
      some p248))
  else if x19 = 51 then (
    if p5 = 0 then (
      if p14 = 0 then (
        (fy_Two_is 0).bind fun p248 =>
        some p248)
      else (
        (fy_Two_is 1).bind fun p248 =>
        some p248))
    else (
      (fy_Two_is 1).bind fun p248 =>
      some p248))
  else if x19 = 52 then (
    if p5 = 0 then (
      if p14 = 0 then (
        (fy_Two_is 0).bind fun p248 =>
        some p248)
      else (
        (fy_Two_is 1).bind fun p248 =>
        some p248))
    else (
      (fy_Two_is 1).bind fun p248 =>
      some p248))
  else if x19 = 53 then (
    if p5 = 0 then (
      if p14 = 0 then (
        (fy_Two_is 0).bind fun p248 =>
        some p248)
      else (
        (fy_Two_is 1).bind fun p248 =>
        some p248))
    else (
      (fy_Two_is 1).bind fun p248 =>
      some p248))
  else if x19 = 54 then (
    if p5 = 0 then (
      if p14 = 0 then (
        (fy_Two_is 0).bind fun p248 =>
        some p248)
      else (
        (fy_Two_is 1).bind fun p248 =>
        some p248))
    else (
      (fy_Two_is 1).bind fun p248 =>
      some p248))
  else if x19 = 55 then (
    if p5 = 0 then (
      if p14 = 0 then (
        (fy_Two_is 0).bind fun p248 =>
        some p248)
      else (
        (fy_Two_is 1).bind fun p248 =>
        some p248))
    else (
      (fy_Two_is 1).bind fun p248 =>
      some p248))
  else if x19 = 56 then (
    if p5 = 0 then (
      if p14 = 0 then (
        (fy_Two_is 0).bind fun p248 =>
        some p248)
      else (
        (fy_Two_is 1).bind fun p248 =>
        some p248))
    else (
      (fy_Two_is 1).bind fun p248 =>
      some p248))
  else if x19 = 57 then (
    if p5 = 0 then (
      if p14 = 0 then (
        (fy_Two_is 0).bind fun p248 =>
        some p248)
      else (
        (fy_Two_is 1).bind fun p248 =>
        some p248))
    else (
      (fy_Two_is 1).bind fun p248 =>
      some p248))
  else if x19 = 58 then (
    if p5 = 0 then (
      if p14 = 0 then (
        (fy_Two_is 0).bind fun p248 =>
        some p248)
      else (
        (fy_Two_is 1).bind fun p248 =>
        some p248))
    else (
      (fy_Two_is 1).bind fun p248 =>
      some p248))
  else if x19 = 59 then (
    if p5 = 0 then (
      if p14 = 0 then (
        (fy_Two_is 0).bind fun p248 =>
        some p248)
      else (
        (fy_Two_is 1).bind fun p248 =>
        some p248))
    else (
      (fy_Two_is 1).bind fun p248 =>
      some p248))
  else if x19 = 60 then (
    if p14 ≤ p5 then (
      (fy_Two_is 0).bind fun p186 =>
      some p186)
    else (
      (fy_Two_is 1).bind fun p186 =>
      some p186))
  else if x19 = 61 then (
    if p5 = p14 then (
      (fy_Two_is 1).bind fun p214 =>
      some p214)
    else (
      (fy_Two_is 0).bind fun p214 =>
      some p214))
  else if x19 = 62 then (
    if p5 ≤ p14 then (
      (fy_Two_is 0).bind fun p200 =>
      some p200)
    else (
      (fy_Two_is 1).bind fun p200 =>
      some p200))
  else (
    if p5 = 0 then (
      if p14 = 0 then (
        (fy_Two_is 0).bind fun p248 =>
        some p248)
      else (
        (fy_Two_is 1).bind fun p248 =>
        some p248))
    else (
      (fy_Two_is 1).bind fun p248 =>
      some p248))
noncomputable def fy_Not_of (G : ai_G) (fof : yS → Nat → Nat → Option Int32) (s : yS) (v0 : Nat) (v1 : Nat) : Option (Int32) :=
  (gR 11 0 s v0).bind fun x1 =>
  (fof s x1 v1).bind fun p5 =>
  if p5 = 0 then (
    some 1)
  else (
    some 0)
noncomputable def fy_of (G : ai_G) : Nat → yS → Nat → Nat → Option Int32
  | 0 => fun _ _ _ => none
  | n + 1 => fun s a t => (cl s a).bind fun c => if c = 11 then fy_Not_of G (fy_of G n) s a t else if c = 12 then fy_Numeral_of G s a t else if c = 13 then fy_Named_of G s a t else if c = 14 then fy_Two_of G (fy_of G n) s a t else none
noncomputable def fy_B_within (v0 : Int32) (v1 : Int32) : Option (Int32) :=
  some (imax 0 (imin v1 v0))
noncomputable def fy_River_hotter (G : ai_G) (s : yS) (v0 : Nat) (v1 : Nat) (v2 : Int32) : Option (Int32 × yS) :=
  (gN 1 5 s v0).bind fun x1 =>
  if x1 = none then (
    some (1, s))
  else (
    (gR 1 16 s v0).bind fun x10 =>
    (gR 2 1 s v1).bind fun x15 =>
    (aI s x15 v2).bind fun x19 =>
    (wA s x10 0 x19).bind fun s20 =>
    (gR 1 16 s20 v0).bind fun x22 =>
    (gR 2 0 s20 v1).bind fun x27 =>
    (aI s20 x27 v2).bind fun x31 =>
    (wA s20 x22 1 x31).bind fun s32 =>
    (gR 1 16 s32 v0).bind fun x34 =>
    (ck 2 s32 v1).bind fun _ =>
    (fy_State_burden G s32 v1 v0 v2).bind fun p41 =>
    (wA s32 x34 2 p41).bind fun s44 =>
    (gR 1 16 s44 v0).bind fun x46 =>
    (gR 1 0 s44 v0).bind fun x51 =>
    (ck 16 s44 x51).bind fun _ =>
    (fy_List_get G s44 x51 v2).bind fun p55 =>
    (ck 9 s44 p55).bind fun _ =>
    (gI 9 1 s44 p55).bind fun x61 =>
    (wA s44 x46 3 x61).bind fun s64 =>
    (gR 1 16 s64 v0).bind fun x66 =>
    (gR 2 4 s64 v1).bind fun x71 =>
    (aI s64 x71 v2).bind fun x75 =>
    (wA s64 x66 4 x75).bind fun s76 =>
    (gR 1 16 s76 v0).bind fun x78 =>
    (gR 2 2 s76 v1).bind fun x83 =>
    (aI s76 x83 v2).bind fun x87 =>
    (wA s76 x78 5 x87).bind fun s88 =>
    (gR 1 5 s88 v0).bind fun x90 =>
    (gR 1 16 s88 v0).bind fun x94 =>
    (fy_of G 64 s88 x90 x94).bind fun p97 =>
    (fy_B_within p97 99).bind fun p102 =>
    some (p102, s88))
noncomputable def fy_B_hotter (G : ai_G) (s : yS) (v0 : Nat) (v1 : Int32) : Option (Int32 × yS) :=
  (ck 0 s v0).bind fun _ =>
  (fy_B_isBoard G s v0 v1).bind fun p2 =>
  if p2 = 0 then (
    some ((-1), s))
  else (
    (gR 0 0 s v0).bind fun x9 =>
    (gR 0 1 s v0).bind fun x13 =>
    (ck 1 s x9).bind fun _ =>
    (fy_River_hotter G s x9 x13 v1).bind fun p17 =>
    some (p17.1, p17.2))
noncomputable def fy_List_fastRemove_j34 (G : ai_G) (s : yS) (v0 : Nat) (v1 : Nat) (v3 : Int32) : Option (yS) :=
  (wI 16 2 s v0 v3).bind fun s38 =>
  (wE s38 v1 v3 none).bind fun s42 =>
  some s42
noncomputable def fy_List_fastRemove (G : ai_G) (s : yS) (v0 : Nat) (v1 : Nat) (v2 : Int32) : Option (yS) :=
  (gI 16 0 s v0).bind fun x2 =>
  (wI 16 0 s v0 (x2 + 1)).bind fun s7 =>
  (gI 16 2 s7 v0).bind fun x11 =>
  if (x11 - 1) ≤ v2 then (
    fy_List_fastRemove_j34 G s7 v0 v1 (x11 - 1))
  else (
    (cpE s7 v1 (v2 + 1) v1 v2 ((x11 - 1) - v2)).bind fun s31 =>
    fy_List_fastRemove_j34 G s31 v0 v1 (x11 - 1))
noncomputable def fy_List_remove (G : ai_G) (s : yS) (v0 : Nat) (v1 : Int32) : Option (Nat × yS) :=
  (gI 16 2 s v0).bind fun x2 =>
  (fy_J5_checkIndex v1 x2).bind fun p5 =>
  (gR 16 1 s v0).bind fun x10 =>
  (aE G s x10 v1).bind fun x16 =>
  (ck 16 s v0).bind fun _ =>
  (fy_List_fastRemove G s v0 x10 v1).bind fun p21 =>
  some (x16, p21)
noncomputable def fy_State_of (G : ai_G) (s : yS) (v0 : Nat) (v1 : Nat) : Option (yS) :=
  (gR 2 0 s v1).bind fun x1 =>
  (gR 2 0 s v0).bind fun x6 =>
  (cpI s x1 0 x6 0 4).bind fun s11 =>
  (gR 2 1 s11 v1).bind fun x15 =>
  (gR 2 1 s11 v0).bind fun x20 =>
  (cpI s11 x15 0 x20 0 4).bind fun s25 =>
  (gR 2 2 s25 v1).bind fun x29 =>
  (gR 2 2 s25 v0).bind fun x34 =>
  (cpI s25 x29 0 x34 0 4).bind fun s39 =>
  (gR 2 3 s39 v1).bind fun x43 =>
  (gR 2 3 s39 v0).bind fun x48 =>
  (cpI s39 x43 0 x48 0 4).bind fun s53 =>
  (gR 2 4 s53 v1).bind fun x57 =>
  (gR 2 4 s53 v0).bind fun x62 =>
  (cpI s53 x57 0 x62 0 4).bind fun s67 =>
  (gR 2 5 s67 v1).bind fun x71 =>
  (gR 2 5 s67 v0).bind fun x76 =>
  (cpI s67 x71 0 x76 0 7).bind fun s82 =>
  (gI 2 6 s82 v1).bind fun x87 =>
  (wI 2 6 s82 v0 x87).bind fun s90 =>
  some s90
noncomputable def fy_B_copy (G : ai_G) (s : yS) (v0 : Nat) : Option (Nat × yS) :=
  (mk 2 s).bind fun s0 =>
  (fy_State_init G s0.2 s0.1).bind fun p4 =>
  (ck 2 p4 s0.1).bind fun _ =>
  (fy_State_of G p4 s0.1 v0).bind fun p10 =>
  some (s0.1, p10)
noncomputable def fy_B_keepAct_j21 (G : ai_G) (s : yS) (v0 : Nat) : Option (yS) :=
  (gR 0 9 s v0).bind fun x22 =>
  (mk 6 s).bind fun s25 =>
  (gR 0 1 s25.2 v0).bind fun x30 =>
  (fy_B_copy G s25.2 x30).bind fun p33 =>
  (fy_Kept_init G p33.2 s25.1 (some p33.1)).bind fun p36 =>
  (ck 16 p36 x22).bind fun _ =>
  (fy_List_add G p36 x22 s25.1).bind fun p39 =>
  (gR 0 10 p39.2 v0).bind fun x44 =>
  (ck 16 p39.2 x44).bind fun _ =>
  (fy_List_clear G p39.2 x44).bind fun p47 =>
  some p47
noncomputable def fy_B_keepAct (G : ai_G) (s : yS) (v0 : Nat) : Option (yS) :=
  (gR 0 9 s v0).bind fun x1 =>
  (ck 16 s x1).bind fun _ =>
  (fy_List_size G s x1).bind fun p4 =>
  if p4 = 40 then (
    (gR 0 9 s v0).bind fun x13 =>
    (ck 16 s x13).bind fun _ =>
    (fy_List_remove G s x13 0).bind fun p17 =>
    fy_B_keepAct_j21 G p17.2 v0)
  else (
    fy_B_keepAct_j21 G s v0)
noncomputable def fy_State_stroke_j147 (G : ai_G) (s : yS) (v0 : Nat) (v1 : Nat) (v2 : Int32) (v6 : Int32) (v10 : Int32) : Option (Int32 × yS) :=
  (gR 2 2 s v0).bind fun x148 =>
  (gR 2 2 s v0).bind fun x155 =>
  (aI s x155 v2).bind fun x159 =>
  (wA s x148 v2 (imin 99 (x159 + v6))).bind fun s166 =>
  (gR 2 2 s166 v0).bind fun x168 =>
  (aI s166 x168 v2).bind fun x172 =>
  (gR 1 0 s166 v1).bind fun x174 =>
  (ck 16 s166 x174).bind fun _ =>
  (fy_List_get G s166 x174 v2).bind fun p178 =>
  (ck 9 s166 p178).bind fun _ =>
  (gI 9 3 s166 p178).bind fun x184 =>
  if x184 < x172 then (
    (gR 2 2 s166 v0).bind fun x202 =>
    (wA s166 x202 v2 0).bind fun s207 =>
    (gR 2 3 s207 v0).bind fun x209 =>
    (gR 2 3 s207 v0).bind fun x217 =>
    (aI s207 x217 v2).bind fun x221 =>
    (wA s207 x209 v2 (imin 999 (x221 + 1))).bind fun s227 =>
    if v10 = 0 then (
      some (2, s227))
    else (
      some (3, s227)))
  else (
    if v10 = 0 then (
      some (0, s166))
    else (
      some (1, s166)))
noncomputable def fy_State_stroke_j98 (G : ai_G) (s : yS) (v0 : Nat) (v1 : Nat) (v2 : Int32) (v6 : Int32) (v8 : Int32) (t0 : Int32) (t1 : Int32) : Option (Int32 × yS) :=
  (gR 1 4 s v1).bind fun x102 =>
  (ck 1 s v1).bind fun _ =>
  (fy_River_cell G s v1 v8 (t0 + t1)).bind fun p110 =>
  (aB G s x102 p110).bind fun x113 =>
  (gR 2 4 s v0).bind fun x117 =>
  (aI s x117 v2).bind fun x122 =>
  (wA s x117 v2 (x122 + 1)).bind fun s125 =>
  if x113 = 0 then (
    (gR 2 0 s125 v0).bind fun x132 =>
    (wA s125 x132 v2 v8).bind fun s138 =>
    (gR 2 1 s138 v0).bind fun x140 =>
    (wA s138 x140 v2 (t0 + t1)).bind fun s146 =>
    fy_State_stroke_j147 G s146 v0 v1 v2 v6 x113)
  else (
    fy_State_stroke_j147 G s125 v0 v1 v2 v6 x113)
noncomputable def fy_State_stroke_j70 (G : ai_G) (s : yS) (v0 : Nat) (v1 : Nat) (v2 : Int32) (v4 : Int32) (v6 : Int32) (t0 : Int32) (t1 : Int32) : Option (Int32 × yS) :=
  (gI 1 8 s v1).bind fun x72 =>
  (fy_B_within (t0 + t1) (x72 - 1)).bind fun p77 =>
  (gR 2 1 s v0).bind fun x83 =>
  (aI s x83 v2).bind fun x87 =>
  if v4 = 0 then (
    fy_State_stroke_j98 G s v0 v1 v2 v6 p77 x87 (-1))
  else (
    fy_State_stroke_j98 G s v0 v1 v2 v6 p77 x87 1)
noncomputable def fy_State_stroke_j46 (G : ai_G) (s : yS) (v0 : Nat) (v1 : Nat) (v2 : Int32) (v3 : Int32) (v4 : Int32) (v5 : Int32) (v6 : Int32) (t0 : Int32) : Option (Int32 × yS) :=
  (gR 2 0 s v0).bind fun x49 =>
  (aI s x49 v2).bind fun x53 =>
  if v5 = 0 then (
    fy_State_stroke_j70 G s v0 v1 v2 v4 v6 (x53 + v3) t0)
  else (
    fy_State_stroke_j70 G s v0 v1 v2 v4 v6 (x53 + v3) (2 * t0))
noncomputable def fy_State_stroke (G : ai_G) (s : yS) (v0 : Nat) (v1 : Nat) (v2 : Int32) (v3 : Int32) (v4 : Int32) (v5 : Int32) : Option (Int32 × yS) :=
  (ck 1 s v1).bind fun _ =>
  (fy_River_hotter G s v1 v0 v2).bind fun p3 =>
  (gR 2 1 p3.2 v0).bind fun x9 =>
  (aI p3.2 x9 v2).bind fun x13 =>
  (gI 1 9 p3.2 v1).bind fun x15 =>
  if x15 ≤ x13 then (
    fy_State_stroke_j46 G p3.2 v0 v1 v2 v3 v4 v5 p3.1 0)
  else (
    (gR 1 2 p3.2 v1).bind fun x22 =>
    (gR 2 0 p3.2 v0).bind fun x27 =>
    (aI p3.2 x27 v2).bind fun x31 =>
    (gR 2 1 p3.2 v0).bind fun x33 =>
    (aI p3.2 x33 v2).bind fun x37 =>
    (ck 1 p3.2 v1).bind fun _ =>
    (fy_River_cell G p3.2 v1 x31 x37).bind fun p38 =>
    (aI p3.2 x22 p38).bind fun x41 =>
    fy_State_stroke_j46 G p3.2 v0 v1 v2 v3 v4 v5 p3.1 x41)
noncomputable def fy_B_stroke_j41 (G : ai_G) (s : yS) (v0 : Nat) (v1 : Int32) (v2 : Int32) (v3 : Int32) (t0 : Int32) (t1 : Int32) : Option (Int32 × yS) :=
  if t0 = t1 then (
    some ((-1), s))
  else (
    (ck 0 s v0).bind fun _ =>
    (fy_B_keepAct G s v0).bind fun p47 =>
    (gR 0 1 p47 v0).bind fun x51 =>
    (gR 0 1 p47 v0).bind fun x58 =>
    (gI 2 6 p47 x58).bind fun x61 =>
    (rm ((137 * x61) + 71) 1000).bind fun x71 =>
    (wI 2 6 p47 x51 x71).bind fun s72 =>
    (gR 0 1 s72 v0).bind fun x76 =>
    (gR 0 0 s72 v0).bind fun x80 =>
    (gR 0 1 s72 v0).bind fun x87 =>
    (gI 2 6 s72 x87).bind fun x90 =>
    (rm x90 100).bind fun x95 =>
    (gR 0 0 s72 v0).bind fun x97 =>
    (gI 1 14 s72 x97).bind fun x100 =>
    if x100 ≤ x95 then (
      (ck 2 s72 x76).bind fun _ =>
      (fy_State_stroke G s72 x76 x80 v1 v2 v3 0).bind fun p111 =>
      some (p111.1, p111.2))
    else (
      (ck 2 s72 x76).bind fun _ =>
      (fy_State_stroke G s72 x76 x80 v1 v2 v3 1).bind fun p111 =>
      some (p111.1, p111.2)))
noncomputable def fy_B_stroke (G : ai_G) (s : yS) (v0 : Nat) (v1 : Int32) (v2 : Int32) (v3 : Int32) : Option (Int32 × yS) :=
  (ck 0 s v0).bind fun _ =>
  (fy_B_isBoard G s v0 v1).bind fun p2 =>
  if p2 = 0 then (
    some ((-1), s))
  else (
    (fy_B_isIn v2 (-1) 1).bind fun p11 =>
    if p11 = 0 then (
      some ((-1), s))
    else (
      (gR 0 1 s v0).bind fun x18 =>
      (gR 2 1 s x18).bind fun x21 =>
      (aI s x21 v1).bind fun x25 =>
      if v3 = 0 then (
        fy_B_stroke_j41 G s v0 v1 v2 v3 x25 0)
      else (
        (gR 0 0 s v0).bind fun x31 =>
        (gI 1 9 s x31).bind fun x34 =>
        fy_B_stroke_j41 G s v0 v1 v2 v3 x25 x34)))
noncomputable def fy_State_bankOf (G : ai_G) (s : yS) (v0 : Nat) (v1 : Nat) (v2 : Int32) : Option (Int32) :=
  (gR 2 1 s v0).bind fun x1 =>
  (aI s x1 v2).bind fun x5 =>
  if x5 = 0 then (
    some (-1))
  else (
    (gR 2 1 s v0).bind fun x14 =>
    (aI s x14 v2).bind fun x18 =>
    (gI 1 9 s v1).bind fun x20 =>
    if x18 = x20 then (
      some (-2))
    else (
      some 0))
noncomputable def fy_B_liesFlat (G : ai_G) (s : yS) (v0 : Nat) (v1 : Int32) (v2 : Int32) : Option (Int32) :=
  (gR 0 1 s v0).bind fun x1 =>
  (gR 0 0 s v0).bind fun x5 =>
  (ck 2 s x1).bind fun _ =>
  (fy_State_burden G s x1 x5 v1).bind fun p9 =>
  (gR 0 0 s v0).bind fun x15 =>
  (gR 1 0 s x15).bind fun x18 =>
  (ck 16 s x18).bind fun _ =>
  (fy_List_get G s x18 v1).bind fun p22 =>
  (ck 9 s p22).bind fun _ =>
  (gI 9 1 s p22).bind fun x28 =>
  if x28 < (p9 + v2) then (
    some 0)
  else (
    some 1)
noncomputable def fy_B_stow (G : ai_G) (s : yS) (v0 : Nat) (v1 : Int32) (v2 : Int32) : Option (Int32 × yS) :=
  (ck 0 s v0).bind fun _ =>
  (fy_B_isLoad G s v0 v1).bind fun p2 =>
  if p2 = 0 then (
    some ((-1), s))
  else (
    (ck 0 s v0).bind fun _ =>
    (fy_B_isBoard G s v0 v2).bind fun p10 =>
    if p10 = 0 then (
      some ((-1), s))
    else (
      (gR 0 1 s v0).bind fun x17 =>
      (gR 2 5 s x17).bind fun x20 =>
      (aI s x20 v1).bind fun x24 =>
      if 0 ≤ x24 then (
        some ((-1), s))
      else (
        (gR 0 1 s v0).bind fun x29 =>
        (gR 2 5 s x29).bind fun x32 =>
        (aI s x32 v1).bind fun x36 =>
        (gR 0 1 s v0).bind fun x38 =>
        (gR 0 0 s v0).bind fun x42 =>
        (ck 2 s x38).bind fun _ =>
        (fy_State_bankOf G s x38 x42 v2).bind fun p46 =>
        if x36 = p46 then (
          (gR 0 0 s v0).bind fun x55 =>
          (gR 1 1 s x55).bind fun x58 =>
          (ck 16 s x58).bind fun _ =>
          (fy_List_get G s x58 v1).bind fun p62 =>
          (ck 10 s p62).bind fun _ =>
          (gI 10 1 s p62).bind fun x68 =>
          (ck 0 s v0).bind fun _ =>
          (fy_B_liesFlat G s v0 v2 x68).bind fun p71 =>
          if p71 = 0 then (
            some ((-1), s))
          else (
            (ck 0 s v0).bind fun _ =>
            (fy_B_keepAct G s v0).bind fun p80 =>
            (gR 0 1 p80 v0).bind fun x84 =>
            (gR 2 5 p80 x84).bind fun x87 =>
            (wA p80 x87 v1 v2).bind fun s92 =>
            (gR 0 1 s92 v0).bind fun x94 =>
            (gR 0 0 s92 v0).bind fun x98 =>
            (ck 2 s92 x94).bind fun _ =>
            (fy_State_burden G s92 x94 x98 v2).bind fun p102 =>
            some (p102, s92)))
        else (
          some ((-1), s)))))
noncomputable def fy_B_take (G : ai_G) (s : yS) (v0 : Nat) (v1 : Int32) : Option (Int32 × yS) :=
  (ck 0 s v0).bind fun _ =>
  (fy_B_isLoad G s v0 v1).bind fun p2 =>
  if p2 = 0 then (
    some ((-1), s))
  else (
    (gR 0 1 s v0).bind fun x9 =>
    (gR 2 5 s x9).bind fun x12 =>
    (aI s x12 v1).bind fun x16 =>
    if x16 < 0 then (
      some ((-1), s))
    else (
      (gR 0 1 s v0).bind fun x21 =>
      (gR 0 0 s v0).bind fun x25 =>
      (gR 0 1 s v0).bind fun x29 =>
      (gR 2 5 s x29).bind fun x32 =>
      (aI s x32 v1).bind fun x36 =>
      (ck 2 s x21).bind fun _ =>
      (fy_State_bankOf G s x21 x25 x36).bind fun p37 =>
      if p37 = 0 then (
        some ((-1), s))
      else (
        (ck 0 s v0).bind fun _ =>
        (fy_B_keepAct G s v0).bind fun p46 =>
        (gR 0 1 p46 v0).bind fun x50 =>
        (gR 2 5 p46 x50).bind fun x53 =>
        (aI p46 x53 v1).bind fun x57 =>
        (gR 0 1 p46 v0).bind fun x60 =>
        (gR 2 5 p46 x60).bind fun x63 =>
        (gR 0 1 p46 v0).bind fun x68 =>
        (gR 0 0 p46 v0).bind fun x72 =>
        (ck 2 p46 x68).bind fun _ =>
        (fy_State_bankOf G p46 x68 x72 x57).bind fun p76 =>
        (wA p46 x63 v1 p76).bind fun s79 =>
        some (x57, s79))))
noncomputable def fy_B_cool (G : ai_G) (s : yS) (v0 : Nat) (v1 : Int32) (v2 : Int32) : Option (Int32 × yS) :=
  (ck 0 s v0).bind fun _ =>
  (fy_B_isBoard G s v0 v1).bind fun p2 =>
  if p2 = 0 then (
    some ((-1), s))
  else (
    (fy_B_isIn v2 1 9).bind fun p12 =>
    if p12 = 0 then (
      some ((-1), s))
    else (
      (ck 0 s v0).bind fun _ =>
      (fy_B_keepAct G s v0).bind fun p21 =>
      (gR 0 1 p21 v0).bind fun x25 =>
      (gR 2 2 p21 x25).bind fun x28 =>
      (gR 0 1 p21 v0).bind fun x33 =>
      (gR 2 2 p21 x33).bind fun x36 =>
      (aI p21 x36 v1).bind fun x40 =>
      (fy_B_within (x40 - v2) 99).bind fun p45 =>
      (wA p21 x28 v1 p45).bind fun s48 =>
      (gR 0 1 s48 v0).bind fun x50 =>
      (gR 2 2 s48 x50).bind fun x53 =>
      (aI s48 x53 v1).bind fun x57 =>
      some (x57, s48)))
noncomputable def fy_List_isEmpty (G : ai_G) (s : yS) (v0 : Nat) : Option (Int32) :=
  (gI 16 2 s v0).bind fun x1 =>
  if x1 = 0 then (
    some 1)
  else (
    some 0)
noncomputable def fy_B_turned (G : ai_G) (s : yS) (v0 : Nat) (v1 : Nat) : Option (Nat × yS) :=
  (gR 0 1 s v0).bind fun x1 =>
  (fy_B_copy G s x1).bind fun p4 =>
  (gR 0 1 p4.2 v0).bind fun x9 =>
  (gR 6 0 p4.2 v1).bind fun x13 =>
  (ck 2 p4.2 x9).bind fun _ =>
  (fy_State_of G p4.2 x9 x13).bind fun p16 =>
  (wR 6 0 p16 v1 (some p4.1)).bind fun s21 =>
  some (v1, s21)
noncomputable def fy_B_undo (G : ai_G) (s : yS) (v0 : Nat) : Option (Int32 × yS) :=
  (gR 0 9 s v0).bind fun x1 =>
  (ck 16 s x1).bind fun _ =>
  (fy_List_isEmpty G s x1).bind fun p4 =>
  if p4 = 0 then (
    (gR 0 10 s v0).bind fun x13 =>
    (gR 0 9 s v0).bind fun x18 =>
    (gR 0 9 s v0).bind fun x22 =>
    (ck 16 s x22).bind fun _ =>
    (fy_List_size G s x22).bind fun p25 =>
    (ck 16 s x18).bind fun _ =>
    (fy_List_remove G s x18 (p25 - 1)).bind fun p30 =>
    (ck 6 p30.2 p30.1).bind fun _ =>
    (ck 0 p30.2 v0).bind fun _ =>
    (fy_B_turned G p30.2 v0 p30.1).bind fun p36 =>
    (ck 16 p36.2 x13).bind fun _ =>
    (fy_List_add G p36.2 x13 p36.1).bind fun p39 =>
    some (1, p39.2))
  else (
    some (0, s))
noncomputable def fy_B_redo (G : ai_G) (s : yS) (v0 : Nat) : Option (Int32 × yS) :=
  (gR 0 10 s v0).bind fun x1 =>
  (ck 16 s x1).bind fun _ =>
  (fy_List_isEmpty G s x1).bind fun p4 =>
  if p4 = 0 then (
    (gR 0 9 s v0).bind fun x13 =>
    (gR 0 10 s v0).bind fun x18 =>
    (gR 0 10 s v0).bind fun x22 =>
    (ck 16 s x22).bind fun _ =>
    (fy_List_size G s x22).bind fun p25 =>
    (ck 16 s x18).bind fun _ =>
    (fy_List_remove G s x18 (p25 - 1)).bind fun p30 =>
    (ck 6 p30.2 p30.1).bind fun _ =>
    (ck 0 p30.2 v0).bind fun _ =>
    (fy_B_turned G p30.2 v0 p30.1).bind fun p36 =>
    (ck 16 p36.2 x13).bind fun _ =>
    (fy_List_add G p36.2 x13 p36.1).bind fun p39 =>
    some (1, p39.2))
  else (
    some (0, s))
noncomputable def fy_B_strokesLeft (G : ai_G) (s : yS) (v0 : Nat) (v1 : Int32) : Option (Int32) :=
  (gR 0 0 s v0).bind fun x1 =>
  (gI 1 9 s x1).bind fun x4 =>
  (gR 0 1 s v0).bind fun x8 =>
  (gR 2 1 s x8).bind fun x11 =>
  (aI s x11 v1).bind fun x15 =>
  some (x4 - x15)
noncomputable def fy_B_power_b4 (v0 : Int32) (v1 : Int32) (q : Int32 × Int32) : Option ((Int32 × Int32) ⊕ Int32) :=
  if v1 ≤ q.2 then (
    some (.inr q.1))
  else (
    some (.inl ((q.1 * v0), (q.2 + 1))))
noncomputable def fy_B_power (v0 : Int32) (v1 : Int32) : Option (Int32) :=
  (lp (fy_B_power_b4 v0 v1) (1, 0)).bind fun q4 =>
  some q4
noncomputable def fy_B_steerOf (v0 : Int32) (v1 : Int32) (v2 : Int32) : Option (Int32) :=
  (fy_B_power 3 ((v1 - 1) - v2)).bind fun p7 =>
  (dv v0 p7).bind fun x10 =>
  (rm x10 3).bind fun x12 =>
  some (x12 - 1)
noncomputable def fy_B_goRow_b17 (G : ai_G) (v0 : Nat) (v1 : Int32) (v2 : Int32) (v3 : Int32) (q : Int32 × Int32 × yS) : Option ((Int32 × Int32 × yS) ⊕ ((Int32 × yS) ⊕ (Int32 × yS))) :=
  if v3 ≤ q.2.1 then (
    some (.inr (.inl (q.1, q.2.2))))
  else (
    (fy_B_steerOf v2 v3 q.2.1).bind fun p27 =>
    (gR 0 2 q.2.2 v0).bind fun x43 =>
    (gR 0 0 q.2.2 v0).bind fun x47 =>
    (ck 2 q.2.2 x43).bind fun _ =>
    (fy_State_stroke G q.2.2 x43 x47 v1 p27 1 0).bind fun p55 =>
    (rm p55.1 2).bind fun x59 =>
    if x59 = 1 then (
      some (.inr (.inr ((-1), p55.2))))
    else (
      some (.inl ((q.1 + (iabs p27)), (q.2.1 + 1), p55.2))))
noncomputable def fy_B_goRow (G : ai_G) (s : yS) (v0 : Nat) (v1 : Int32) (v2 : Int32) (v3 : Int32) : Option (Int32 × yS) :=
  (gR 0 2 s v0).bind fun x1 =>
  (gR 0 1 s v0).bind fun x5 =>
  (ck 2 s x1).bind fun _ =>
  (fy_State_of G s x1 x5).bind fun p8 =>
  (lp (fy_B_goRow_b17 G v0 v1 v2 v3) (0, 0, p8)).bind (Sum.elim (fun q17 =>
    some (q17.1, q17.2)) (fun q17r => some q17r))
noncomputable def fy_B_landingsOf_b11 (G : ai_G) (v0 : Nat) (v1 : Int32) (v2 : Int32) (q : Int32 × Int32 × yS) : Option ((Int32 × Int32 × yS) ⊕ (Int32 × yS)) :=
  (fy_B_power 3 v2).bind fun p15 =>
  if p15 ≤ q.2.1 then (
    some (.inr (q.1, q.2.2)))
  else (
    (ck 0 q.2.2 v0).bind fun _ =>
    (fy_B_goRow G q.2.2 v0 v1 q.2.1 v2).bind fun p26 =>
    if p26.1 < 0 then (
      some (.inl (q.1, (q.2.1 + 1), p26.2)))
    else (
      (gR 0 2 p26.2 v0).bind fun x35 =>
      (gR 2 0 p26.2 x35).bind fun x38 =>
      (aI p26.2 x38 v1).bind fun x42 =>
      some (.inl ((q.1 ||| (1 <<< (x42 &&& 31))), (q.2.1 + 1), p26.2))))
noncomputable def fy_B_landingsOf (G : ai_G) (s : yS) (v0 : Nat) (v1 : Int32) : Option (Int32 × yS) :=
  (ck 0 s v0).bind fun _ =>
  (fy_B_strokesLeft G s v0 v1).bind fun p2 =>
  (lp (fy_B_landingsOf_b11 G v0 v1 p2) (0, 0, s)).bind fun q11 =>
  some (q11.1, q11.2)
noncomputable def fy_B_landings (G : ai_G) (s : yS) (v0 : Nat) (v1 : Int32) : Option (Int32 × yS) :=
  (ck 0 s v0).bind fun _ =>
  (fy_B_isBoard G s v0 v1).bind fun p2 =>
  if p2 = 0 then (
    some ((-1), s))
  else (
    (ck 0 s v0).bind fun _ =>
    (fy_B_landingsOf G s v0 v1).bind fun p10 =>
    some (p10.1, p10.2))
noncomputable def fy_B_straightOn (v0 : Int32) : Option (Int32) :=
  (fy_B_power 3 v0).bind fun p2 =>
  (dv (p2 - 1) 2).bind fun x8 =>
  some x8
noncomputable def fy_B_drift (G : ai_G) (s : yS) (v0 : Nat) (v1 : Int32) : Option (Int32 × yS) :=
  (ck 0 s v0).bind fun _ =>
  (fy_B_isBoard G s v0 v1).bind fun p2 =>
  if p2 = 0 then (
    some ((-1), s))
  else (
    (ck 0 s v0).bind fun _ =>
    (fy_B_strokesLeft G s v0 v1).bind fun p12 =>
    (fy_B_straightOn p12).bind fun p19 =>
    (ck 0 s v0).bind fun _ =>
    (fy_B_goRow G s v0 v1 p19 p12).bind fun p23 =>
    if 0 ≤ p23.1 then (
      (gR 0 2 p23.2 v0).bind fun x34 =>
      (gR 2 0 p23.2 x34).bind fun x37 =>
      (aI p23.2 x37 v1).bind fun x41 =>
      some (x41, p23.2))
    else (
      some ((-1), p23.2)))
noncomputable def fy_B_rows_b21 (G : ai_G) (v0 : Nat) (v1 : Int32) (v2 : Int32) (q : Int32 × Int32 × yS) : Option ((Int32 × Int32 × yS) ⊕ (Int32 × yS)) :=
  (fy_B_power 3 v2).bind fun p25 =>
  if p25 ≤ q.2.1 then (
    some (.inr (q.1, q.2.2)))
  else (
    (ck 0 q.2.2 v0).bind fun _ =>
    (fy_B_goRow G q.2.2 v0 v1 q.2.1 v2).bind fun p37 =>
    if p37.1 < 0 then (
      some (.inl ((q.1 + 0), (q.2.1 + 1), p37.2)))
    else (
      some (.inl ((q.1 + 1), (q.2.1 + 1), p37.2))))
noncomputable def fy_B_rows (G : ai_G) (s : yS) (v0 : Nat) (v1 : Int32) : Option (Int32 × yS) :=
  (ck 0 s v0).bind fun _ =>
  (fy_B_isBoard G s v0 v1).bind fun p2 =>
  if p2 = 0 then (
    some ((-1), s))
  else (
    (ck 0 s v0).bind fun _ =>
    (fy_B_strokesLeft G s v0 v1).bind fun p12 =>
    (lp (fy_B_rows_b21 G v0 v1 p12) (0, 0, s)).bind fun q21 =>
    some (q21.1, q21.2))
noncomputable def fy_Coolest_costOf (G : ai_G) (s : yS) (v0 : Nat) (v1 : Nat) (v2 : Int32) (v3 : Int32) : Option (Int32) :=
  (gR 2 3 s v1).bind fun x1 =>
  (aI s x1 v2).bind fun x5 =>
  (gR 4 3 s v0).bind fun x7 =>
  (gR 0 1 s x7).bind fun x10 =>
  (gR 2 3 s x10).bind fun x13 =>
  (aI s x13 v2).bind fun x17 =>
  (gR 2 2 s v1).bind fun x23 =>
  (aI s x23 v2).bind fun x27 =>
  some (((x5 - x17) * 100) + x27)
noncomputable def fy_Straightest_costOf (G : ai_G) (s : yS) (v0 : Nat) (v1 : Nat) (v2 : Int32) (v3 : Int32) : Option (Int32) :=
  (gR 2 0 s v1).bind fun x1 =>
  (aI s x1 v2).bind fun x5 =>
  (gI 5 3 s v0).bind fun x7 =>
  if x5 = x7 then (
    some v3)
  else (
    some (-1))
noncomputable abbrev fy_costOf (G : ai_G) (s : yS) (a b : Nat) (v w : Int32) : Option Int32 := (cl s a).bind fun c => if c = 4 then fy_Coolest_costOf G s a b v w else if c = 5 then fy_Straightest_costOf G s a b v w else none
noncomputable def fy_Wish_seek_j101 (G : ai_G) (s : yS) (v0 : Nat) (v1 : Int32) (v2 : Int32) (v3 : Int32) (v5 : Int32) : Option ((Int32 × yS) ⊕ yS) :=
  (wI2 4 5 0 s v0 v3).bind fun s103 =>
  (wI2 4 5 1 s103 v0 v5).bind fun s109 =>
  some (.inl ((v3 + 1), s109))
noncomputable def fy_Wish_seek_j75 (G : ai_G) (s : yS) (v0 : Nat) (v1 : Int32) (v2 : Int32) (v3 : Int32) (t0 : Int32) : Option ((Int32 × yS) ⊕ yS) :=
  if t0 < 0 then (
    some (.inl ((v3 + 1), s)))
  else (
    (gI2 4 5 0 s v0).bind fun x83 =>
    if x83 < 0 then (
      fy_Wish_seek_j101 G s v0 v1 v2 v3 t0)
    else (
      (gI2 4 5 1 s v0).bind fun x92 =>
      if t0 < x92 then (
        fy_Wish_seek_j101 G s v0 v1 v2 v3 t0)
      else (
        some (.inl ((v3 + 1), s)))))
noncomputable def fy_Wish_seek_b31 (G : ai_G) (v0 : Nat) (v1 : Int32) (v2 : Int32) (q : Int32 × yS) : Option ((Int32 × yS) ⊕ yS) :=
  (fy_B_power 3 v2).bind fun p34 =>
  if p34 ≤ q.1 then (
    some (.inr q.2))
  else (
    (gR2 4 5 2 q.2 v0).bind fun x41 =>
    (ck 0 q.2 x41).bind fun _ =>
    (fy_B_goRow G q.2 x41 v1 q.1 v2).bind fun p47 =>
    if 0 ≤ p47.1 then (
      (gR2 4 5 2 p47.2 v0).bind fun x63 =>
      (gR 0 2 p47.2 x63).bind fun x66 =>
      (fy_costOf G p47.2 v0 x66 v1 p47.1).bind fun p72 =>
      fy_Wish_seek_j75 G p47.2 v0 v1 v2 q.1 p72)
    else (
      fy_Wish_seek_j75 G p47.2 v0 v1 v2 q.1 (-1)))
noncomputable def fy_Wish_seek_b139 (G : ai_G) (v0 : Nat) (v2 : Int32) (q : Int32 × yS) : Option ((Int32 × yS) ⊕ yS) :=
  (gR2 4 5 2 q.2 v0).bind fun x141 =>
  (gI 0 13 q.2 x141).bind fun x144 =>
  if x144 ≤ q.1 then (
    some (.inr q.2))
  else (
    (gR2 4 5 2 q.2 v0).bind fun x151 =>
    (gR 0 11 q.2 x151).bind fun x154 =>
    (gI2 4 5 0 q.2 v0).bind fun x159 =>
    (fy_B_steerOf x159 v2 q.1).bind fun p164 =>
    (wA q.2 x154 q.1 p164).bind fun s167 =>
    some (.inl ((q.1 + 1), s167)))
noncomputable def fy_Wish_seek_j134 (G : ai_G) (s : yS) (v0 : Nat) (v2 : Int32) (t0 : Nat) (t1 : Int32) : Option (Int32 × yS) :=
  (wI 0 13 s t0 t1).bind fun s134 =>
  (lp (fy_Wish_seek_b139 G v0 v2) (0, s134)).bind fun q139 =>
  (gI2 4 5 0 q139 v0).bind fun x175 =>
  if x175 < 0 then (
    some (0, q139))
  else (
    some (1, q139))
noncomputable def fy_Wish_seek (G : ai_G) (s : yS) (v0 : Nat) (v1 : Int32) : Option (Int32 × yS) :=
  (wI2 4 5 0 s v0 (-1)).bind fun s2 =>
  (gR2 4 5 2 s2 v0).bind fun x6 =>
  (gR 0 0 s2 x6).bind fun x9 =>
  (gI 1 9 s2 x9).bind fun x12 =>
  (gR2 4 5 2 s2 v0).bind fun x16 =>
  (gR 0 1 s2 x16).bind fun x19 =>
  (gR 2 1 s2 x19).bind fun x22 =>
  (aI s2 x22 v1).bind fun x26 =>
  (lp (fy_Wish_seek_b31 G v0 v1 (x12 - x26)) (0, s2)).bind fun q31 =>
  (gR2 4 5 2 q31 v0).bind fun x119 =>
  (gI2 4 5 0 q31 v0).bind fun x123 =>
  if 0 ≤ x123 then (
    fy_Wish_seek_j134 G q31 v0 (x12 - x26) x119 (x12 - x26))
  else (
    fy_Wish_seek_j134 G q31 v0 (x12 - x26) x119 0)
noncomputable def fy_B_coolest (G : ai_G) (s : yS) (v0 : Nat) (v1 : Int32) (v2 : Int32) : Option (Int32 × yS) :=
  (wI 0 13 s v0 0).bind fun s2 =>
  (ck 0 s2 v0).bind fun _ =>
  (fy_B_isBoard G s2 v0 v1).bind fun p7 =>
  if p7 = 0 then (
    some ((-1), s2))
  else (
    (fy_B_isIn v2 0 2).bind fun p16 =>
    if p16 = 0 then (
      some ((-1), s2))
    else (
      (gR 0 14 s2 v0).bind fun x23 =>
      (ck2 4 5 s2 x23).bind fun _ =>
      (fy_Wish_seek G s2 x23 v1).bind fun p27 =>
      if p27.1 = 0 then (
        some ((-1), p27.2))
      else (
        (gR 0 14 p27.2 v0).bind fun x38 =>
        (gI2 4 5 0 p27.2 x38).bind fun x41 =>
        (gI 0 13 p27.2 v0).bind fun x45 =>
        (ck 0 p27.2 v0).bind fun _ =>
        (fy_B_goRow G p27.2 v0 v1 x41 x45).bind fun p48 =>
        if v2 = 0 then (
          (gR 0 2 p48.2 v0).bind fun x57 =>
          (gR 2 3 p48.2 x57).bind fun x60 =>
          (aI p48.2 x60 v1).bind fun x64 =>
          (gR 0 1 p48.2 v0).bind fun x66 =>
          (gR 2 3 p48.2 x66).bind fun x69 =>
          (aI p48.2 x69 v1).bind fun x73 =>
          some ((x64 - x73), p48.2))
        else (
          if v2 = 1 then (
            (gR 0 2 p48.2 v0).bind fun x84 =>
            (gR 2 2 p48.2 x84).bind fun x87 =>
            (aI p48.2 x87 v1).bind fun x91 =>
            some (x91, p48.2))
          else (
            (gR 0 2 p48.2 v0).bind fun x96 =>
            (gR 2 0 p48.2 x96).bind fun x99 =>
            (aI p48.2 x99 v1).bind fun x103 =>
            some (x103, p48.2))))))
noncomputable def fy_B_straight (G : ai_G) (s : yS) (v0 : Nat) (v1 : Int32) (v2 : Int32) : Option (Int32 × yS) :=
  (wI 0 13 s v0 0).bind fun s2 =>
  (ck 0 s2 v0).bind fun _ =>
  (fy_B_isBoard G s2 v0 v1).bind fun p7 =>
  if p7 = 0 then (
    some ((-1), s2))
  else (
    (gR 0 0 s2 v0).bind fun x16 =>
    (gI 1 8 s2 x16).bind fun x19 =>
    (fy_B_isIn v2 0 (x19 - 1)).bind fun p24 =>
    if p24 = 0 then (
      some ((-1), s2))
    else (
      (gR 0 15 s2 v0).bind fun x33 =>
      (wI 5 3 s2 x33 v2).bind fun s37 =>
      (gR 0 15 s37 v0).bind fun x41 =>
      (ck 5 s37 x41).bind fun _ =>
      (fy_Wish_seek G s37 x41 v1).bind fun p45 =>
      if p45.1 = 0 then (
        some ((-1), p45.2))
      else (
        (gR 0 15 p45.2 v0).bind fun x52 =>
        (gI2 4 5 1 p45.2 x52).bind fun x55 =>
        some (x55, p45.2))))
noncomputable def fy_B_widest_b64 (G : ai_G) (s : yS) (v0 : Nat) (v1 : Int32) (v2 : Int32) (v3 : Int32) (q : Int32 × Int32) : Option ((Int32 × Int32) ⊕ Int32) :=
  (ck 0 s v0).bind fun _ =>
  (fy_B_loads G s v0).bind fun p68 =>
  if (1 <<< (p68 &&& 31)) ≤ q.2 then (
    some (.inr q.1))
  else (
    if (q.2 &&& (v3 ^^^ (-1))) = 0 then (
      (gR 0 0 s v0).bind fun x87 =>
      (ck 1 s x87).bind fun _ =>
      (fy_River_widthOf G s x87 q.2).bind fun p92 =>
      (ck 0 s v0).bind fun _ =>
      (fy_B_liesFlat G s v0 v1 p92).bind fun p95 =>
      if p95 = 0 then (
        some (.inl (q.1, (q.2 + 1))))
      else (
        (gR 0 0 s v0).bind fun x102 =>
        (ck 1 s x102).bind fun _ =>
        (fy_River_widthOf G s x102 q.2).bind fun p107 =>
        (gR 0 0 s v0).bind fun x111 =>
        (ck 1 s x111).bind fun _ =>
        (fy_River_widthOf G s x111 q.1).bind fun p116 =>
        if p107 ≤ p116 then (
          some (.inl (q.1, (q.2 + 1))))
        else (
          some (.inl (q.2, (q.2 + 1))))))
    else (
      some (.inl (q.1, (q.2 + 1)))))
noncomputable def fy_B_widest (G : ai_G) (s : yS) (v0 : Nat) (v1 : Int32) (v2 : Int32) : Option (Int32) :=
  (ck 0 s v0).bind fun _ =>
  (fy_B_isBoard G s v0 v1).bind fun p2 =>
  if p2 = 0 then (
    some (-1))
  else (
    (fy_B_isIn v2 0 1).bind fun p11 =>
    if p11 = 0 then (
      some (-1))
    else (
      (gR 0 1 s v0).bind fun x18 =>
      (gR 0 0 s v0).bind fun x22 =>
      (ck 2 s x18).bind fun _ =>
      (fy_State_bankOf G s x18 x22 v1).bind fun p26 =>
      if p26 = 0 then (
        some (-1))
      else (
        (gR 0 1 s v0).bind fun x35 =>
        (gR 0 0 s v0).bind fun x39 =>
        (gR 0 1 s v0).bind fun x43 =>
        (gR 0 0 s v0).bind fun x47 =>
        (ck 2 s x43).bind fun _ =>
        (fy_State_bankOf G s x43 x47 v1).bind fun p51 =>
        (ck 2 s x35).bind fun _ =>
        (fy_State_loadsAt G s x35 x39 p51).bind fun p54 =>
        (lp (fy_B_widest_b64 G s v0 v1 v2 p54) (0, 1)).bind fun q64 =>
        if v2 = 0 then (
          (gR 0 0 s v0).bind fun x137 =>
          (ck 1 s x137).bind fun _ =>
          (fy_River_widthOf G s x137 q64).bind fun p142 =>
          some p142)
        else (
          some q64))))
noncomputable def fy_B_goTrips_b98 (G : ai_G) (rec : yS → Nat → Int32 → Int32 → Int32 → Nat → Option (yS)) (v0 : Nat) (v1 : Int32) (v2 : Int32) (v3 : Int32) (v4 : Nat) (v5 : Int32) (q : Int32 × yS) : Option ((Int32 × yS) ⊕ yS) :=
  if v3 < q.1 then (
    some (.inr q.2))
  else (
    (aI q.2 v4 q.1).bind fun x108 =>
    if (x108 + v5) ≤ v1 then (
      (gR 0 12 q.2 v0).bind fun x120 =>
      (wA q.2 x120 v2 q.1).bind fun s126 =>
      (aI s126 v4 q.1).bind fun x132 =>
      (wA s126 v4 q.1 (x132 + v5)).bind fun s136 =>
      (ck 0 s136 v0).bind fun _ =>
      (rec s136 v0 v1 (v2 + 1) (imax v3 (q.1 + 1)) v4).bind fun p152 =>
      (aI p152 v4 q.1).bind fun x160 =>
      (wA p152 v4 q.1 (x160 - v5)).bind fun s164 =>
      some (.inl ((q.1 + 1), s164)))
    else (
      some (.inl ((q.1 + 1), q.2))))
noncomputable def fy_B_goTrips_j16 (G : ai_G) (rec : yS → Nat → Int32 → Int32 → Int32 → Nat → Option (yS)) (s : yS) (v0 : Nat) (v1 : Int32) (v2 : Int32) (v3 : Int32) (v4 : Nat) : Option (yS) :=
  (ck 0 s v0).bind fun _ =>
  (fy_B_loads G s v0).bind fun p18 =>
  if v2 = p18 then (
    (wI 0 16 s v0 v3).bind fun s26 =>
    (gR 0 12 s26 v0).bind fun x30 =>
    (gR 0 11 s26 v0).bind fun x35 =>
    (cpI s26 x30 0 x35 0 v2).bind fun s40 =>
    some s40)
  else (
    (gR 0 12 s v0).bind fun x45 =>
    (wA s x45 v2 (-1)).bind fun s50 =>
    (gR 0 1 s50 v0).bind fun x52 =>
    (gR 2 5 s50 x52).bind fun x55 =>
    (aI s50 x55 v2).bind fun x59 =>
    if x59 = (-1) then (
      (gR 0 0 s50 v0).bind fun x77 =>
      (gR 1 1 s50 x77).bind fun x80 =>
      (ck 16 s50 x80).bind fun _ =>
      (fy_List_get G s50 x80 v2).bind fun p84 =>
      (ck 10 s50 p84).bind fun _ =>
      (gI 10 1 s50 p84).bind fun x90 =>
      (lp (fy_B_goTrips_b98 G rec v0 v1 v2 v3 v4 x90) (0, s50)).bind fun q98 =>
      some q98)
    else (
      (ck 0 s50 v0).bind fun _ =>
      (rec s50 v0 v1 (v2 + 1) v3 v4).bind fun p72 =>
      some p72))
noncomputable def fy_B_goTrips (G : ai_G) (rec : yS → Nat → Int32 → Int32 → Int32 → Nat → Option (yS)) (s : yS) (v0 : Nat) (v1 : Int32) (v2 : Int32) (v3 : Int32) (v4 : Nat) : Option (yS) :=
  (gI 0 16 s v0).bind fun x1 =>
  if x1 < 0 then (
    fy_B_goTrips_j16 G rec s v0 v1 v2 v3 v4)
  else (
    (gI 0 16 s v0).bind fun x9 =>
    if v3 < x9 then (
      fy_B_goTrips_j16 G rec s v0 v1 v2 v3 v4)
    else (
      some s))
noncomputable def fy_B_goTrips_N (G : ai_G) : Nat → yS → Nat → Int32 → Int32 → Int32 → Nat → Option (yS)
  | 0 => fun _ _ _ _ _ _ => none
  | n + 1 => fy_B_goTrips G (fy_B_goTrips_N G n)
noncomputable def fy_B_trips (G : ai_G) (s : yS) (v0 : Nat) (v1 : Int32) : Option (Int32 × yS) :=
  (wI 0 13 s v0 0).bind fun s2 =>
  (ck 0 s2 v0).bind fun _ =>
  (fy_B_isBoard G s2 v0 v1).bind fun p7 =>
  if p7 = 0 then (
    some ((-1), s2))
  else (
    (wI 0 16 s2 v0 (-1)).bind fun s17 =>
    (gR 0 0 s17 v0).bind fun x22 =>
    (gR 1 0 s17 x22).bind fun x25 =>
    (ck 16 s17 x25).bind fun _ =>
    (fy_List_get G s17 x25 v1).bind fun p29 =>
    (ck 9 s17 p29).bind fun _ =>
    (gI 9 1 s17 p29).bind fun x35 =>
    (gR 0 17 s17 v0).bind fun x41 =>
    (ck 0 s17 v0).bind fun _ =>
    (fy_B_goTrips_N G 9 s17 v0 x35 0 0 x41).bind fun p44 =>
    (gI 0 16 p44 v0).bind fun x49 =>
    if 0 ≤ x49 then (
      (ck 0 p44 v0).bind fun _ =>
      (fy_B_loads G p44 v0).bind fun p60 =>
      (wI 0 13 p44 v0 p60).bind fun s63 =>
      (gI 0 16 s63 v0).bind fun x67 =>
      some (x67, s63))
    else (
      (wI 0 13 p44 v0 0).bind fun s63 =>
      (gI 0 16 s63 v0).bind fun x67 =>
      some (x67, s63)))
noncomputable def fy_J14_bitCount (v0 : Int32) : Option (Int32) :=
  some ((((((((v0 - ((Int32.toUInt32 v0 >>> (Int32.toUInt32 1 &&& Int32.toUInt32 31)).toInt32 &&& 1431655765)) &&& 858993459) + ((Int32.toUInt32 (v0 - ((Int32.toUInt32 v0 >>> (Int32.toUInt32 1 &&& Int32.toUInt32 31)).toInt32 &&& 1431655765)) >>> (Int32.toUInt32 2 &&& Int32.toUInt32 31)).toInt32 &&& 858993459)) + (Int32.toUInt32 (((v0 - ((Int32.toUInt32 v0 >>> (Int32.toUInt32 1 &&& Int32.toUInt32 31)).toInt32 &&& 1431655765)) &&& 858993459) + ((Int32.toUInt32 (v0 - ((Int32.toUInt32 v0 >>> (Int32.toUInt32 1 &&& Int32.toUInt32 31)).toInt32 &&& 1431655765)) >>> (Int32.toUInt32 2 &&& Int32.toUInt32 31)).toInt32 &&& 858993459)) >>> (Int32.toUInt32 4 &&& Int32.toUInt32 31)).toInt32) &&& 252645135) + (Int32.toUInt32 (((((v0 - ((Int32.toUInt32 v0 >>> (Int32.toUInt32 1 &&& Int32.toUInt32 31)).toInt32 &&& 1431655765)) &&& 858993459) + ((Int32.toUInt32 (v0 - ((Int32.toUInt32 v0 >>> (Int32.toUInt32 1 &&& Int32.toUInt32 31)).toInt32 &&& 1431655765)) >>> (Int32.toUInt32 2 &&& Int32.toUInt32 31)).toInt32 &&& 858993459)) + (Int32.toUInt32 (((v0 - ((Int32.toUInt32 v0 >>> (Int32.toUInt32 1 &&& Int32.toUInt32 31)).toInt32 &&& 1431655765)) &&& 858993459) + ((Int32.toUInt32 (v0 - ((Int32.toUInt32 v0 >>> (Int32.toUInt32 1 &&& Int32.toUInt32 31)).toInt32 &&& 1431655765)) >>> (Int32.toUInt32 2 &&& Int32.toUInt32 31)).toInt32 &&& 858993459)) >>> (Int32.toUInt32 4 &&& Int32.toUInt32 31)).toInt32) &&& 252645135) >>> (Int32.toUInt32 8 &&& Int32.toUInt32 31)).toInt32) + (Int32.toUInt32 ((((((v0 - ((Int32.toUInt32 v0 >>> (Int32.toUInt32 1 &&& Int32.toUInt32 31)).toInt32 &&& 1431655765)) &&& 858993459) + ((Int32.toUInt32 (v0 - ((Int32.toUInt32 v0 >>> (Int32.toUInt32 1 &&& Int32.toUInt32 31)).toInt32 &&& 1431655765)) >>> (Int32.toUInt32 2 &&& Int32.toUInt32 31)).toInt32 &&& 858993459)) + (Int32.toUInt32 (((v0 - ((Int32.toUInt32 v0 >>> (Int32.toUInt32 1 &&& Int32.toUInt32 31)).toInt32 &&& 1431655765)) &&& 858993459) + ((Int32.toUInt32 (v0 - ((Int32.toUInt32 v0 >>> (Int32.toUInt32 1 &&& Int32.toUInt32 31)).toInt32 &&& 1431655765)) >>> (Int32.toUInt32 2 &&& Int32.toUInt32 31)).toInt32 &&& 858993459)) >>> (Int32.toUInt32 4 &&& Int32.toUInt32 31)).toInt32) &&& 252645135) + (Int32.toUInt32 (((((v0 - ((Int32.toUInt32 v0 >>> (Int32.toUInt32 1 &&& Int32.toUInt32 31)).toInt32 &&& 1431655765)) &&& 858993459) + ((Int32.toUInt32 (v0 - ((Int32.toUInt32 v0 >>> (Int32.toUInt32 1 &&& Int32.toUInt32 31)).toInt32 &&& 1431655765)) >>> (Int32.toUInt32 2 &&& Int32.toUInt32 31)).toInt32 &&& 858993459)) + (Int32.toUInt32 (((v0 - ((Int32.toUInt32 v0 >>> (Int32.toUInt32 1 &&& Int32.toUInt32 31)).toInt32 &&& 1431655765)) &&& 858993459) + ((Int32.toUInt32 (v0 - ((Int32.toUInt32 v0 >>> (Int32.toUInt32 1 &&& Int32.toUInt32 31)).toInt32 &&& 1431655765)) >>> (Int32.toUInt32 2 &&& Int32.toUInt32 31)).toInt32 &&& 858993459)) >>> (Int32.toUInt32 4 &&& Int32.toUInt32 31)).toInt32) &&& 252645135) >>> (Int32.toUInt32 8 &&& Int32.toUInt32 31)).toInt32) >>> (Int32.toUInt32 16 &&& Int32.toUInt32 31)).toInt32) &&& 63)
noncomputable def fy_B_goStow_b102 (G : ai_G) (rec : yS → Nat → Int32 → Int32 → Nat → Option (yS)) (v0 : Nat) (v1 : Int32) (v2 : Int32) (v3 : Nat) (v4 : Int32) (q : Int32 × yS) : Option ((Int32 × yS) ⊕ yS) :=
  (ck 0 q.2 v0).bind fun _ =>
  (fy_B_boards G q.2 v0).bind fun p105 =>
  if p105 ≤ q.1 then (
    some (.inr q.2))
  else (
    (gR 0 1 q.2 v0).bind fun x112 =>
    (gR 2 1 q.2 x112).bind fun x115 =>
    (aI q.2 x115 q.1).bind fun x120 =>
    if x120 = 0 then (
      (aI q.2 v3 q.1).bind fun x130 =>
      (ck 0 q.2 v0).bind fun _ =>
      (fy_B_liesFlat G q.2 v0 q.1 (x130 + v4)).bind fun p134 =>
      if p134 = 0 then (
        some (.inl ((q.1 + 1), q.2)))
      else (
        (gR 0 12 q.2 v0).bind fun x144 =>
        (wA q.2 x144 v1 q.1).bind fun s150 =>
        (aI s150 v3 q.1).bind fun x155 =>
        (wA s150 v3 q.1 (x155 + v4)).bind fun s159 =>
        (ck 0 s159 v0).bind fun _ =>
        (rec s159 v0 (v1 + 1) (v2 ||| (1 <<< (q.1 &&& 31))) v3).bind fun p171 =>
        (aI p171 v3 q.1).bind fun x178 =>
        (wA p171 v3 q.1 (x178 - v4)).bind fun s182 =>
        some (.inl ((q.1 + 1), s182))))
    else (
      some (.inl ((q.1 + 1), q.2))))
noncomputable def fy_B_goStow_j19 (G : ai_G) (rec : yS → Nat → Int32 → Int32 → Nat → Option (yS)) (s : yS) (v0 : Nat) (v1 : Int32) (v2 : Int32) (v3 : Nat) : Option (yS) :=
  (ck 0 s v0).bind fun _ =>
  (fy_B_loads G s v0).bind fun p21 =>
  if v1 = p21 then (
    (fy_J14_bitCount v2).bind fun p29 =>
    (wI 0 16 s v0 p29).bind fun s32 =>
    (gR 0 12 s32 v0).bind fun x36 =>
    (gR 0 11 s32 v0).bind fun x41 =>
    (cpI s32 x36 0 x41 0 v1).bind fun s46 =>
    some s46)
  else (
    (gR 0 12 s v0).bind fun x51 =>
    (wA s x51 v1 (-1)).bind fun s56 =>
    (gR 0 1 s56 v0).bind fun x58 =>
    (gR 2 5 s56 x58).bind fun x61 =>
    (aI s56 x61 v1).bind fun x65 =>
    if x65 = (-1) then (
      (gR 0 0 s56 v0).bind fun x81 =>
      (gR 1 1 s56 x81).bind fun x84 =>
      (ck 16 s56 x84).bind fun _ =>
      (fy_List_get G s56 x84 v1).bind fun p88 =>
      (ck 10 s56 p88).bind fun _ =>
      (gI 10 1 s56 p88).bind fun x94 =>
      (lp (fy_B_goStow_b102 G rec v0 v1 v2 v3 x94) (0, s56)).bind fun q102 =>
      some q102)
    else (
      (ck 0 s56 v0).bind fun _ =>
      (rec s56 v0 (v1 + 1) v2 v3).bind fun p76 =>
      some p76))
noncomputable def fy_B_goStow (G : ai_G) (rec : yS → Nat → Int32 → Int32 → Nat → Option (yS)) (s : yS) (v0 : Nat) (v1 : Int32) (v2 : Int32) (v3 : Nat) : Option (yS) :=
  (gI 0 16 s v0).bind fun x1 =>
  if x1 < 0 then (
    fy_B_goStow_j19 G rec s v0 v1 v2 v3)
  else (
    (fy_J14_bitCount v2).bind fun p8 =>
    (gI 0 16 s v0).bind fun x12 =>
    if p8 < x12 then (
      fy_B_goStow_j19 G rec s v0 v1 v2 v3)
    else (
      some s))
noncomputable def fy_B_goStow_N (G : ai_G) : Nat → yS → Nat → Int32 → Int32 → Nat → Option (yS)
  | 0 => fun _ _ _ _ _ => none
  | n + 1 => fy_B_goStow G (fy_B_goStow_N G n)
noncomputable def fy_B_stowing (G : ai_G) (s : yS) (v0 : Nat) : Option (Int32 × yS) :=
  (wI 0 16 s v0 (-1)).bind fun s2 =>
  (gR 0 17 s2 v0).bind fun x9 =>
  (ck 0 s2 v0).bind fun _ =>
  (fy_B_goStow_N G 9 s2 v0 0 0 x9).bind fun p12 =>
  (gI 0 16 p12 v0).bind fun x17 =>
  if 0 ≤ x17 then (
    (ck 0 p12 v0).bind fun _ =>
    (fy_B_loads G p12 v0).bind fun p28 =>
    (wI 0 13 p12 v0 p28).bind fun s31 =>
    (gI 0 16 s31 v0).bind fun x35 =>
    some (x35, s31))
  else (
    (wI 0 13 p12 v0 0).bind fun s31 =>
    (gI 0 16 s31 v0).bind fun x35 =>
    some (x35, s31))
noncomputable def fy_B_areSideBySide_b2 (G : ai_G) (s : yS) (v0 : Nat) (q : Int32) : Option (Int32 ⊕ (Unit ⊕ Int32)) :=
  (gR 0 18 s v0).bind fun x4 =>
  (aL G s x4).bind fun x7 =>
  if x7 ≤ q then (
    some (.inr (.inl ())))
  else (
    (gR 0 18 s v0).bind fun x12 =>
    (aB G s x12 q).bind fun x16 =>
    if x16 = 0 then (
      some (.inl (q + 1)))
    else (
      (dv q 8).bind fun x23 =>
      (rm q 8).bind fun x27 =>
      if (iabs (x23 - x27)) = 1 then (
        some (.inr (.inr 1)))
      else (
        some (.inl (q + 1)))))
noncomputable def fy_B_areSideBySide (G : ai_G) (s : yS) (v0 : Nat) : Option (Int32) :=
  (lp (fy_B_areSideBySide_b2 G s v0) 0).bind (Sum.elim (fun q2 =>
    some 0) (fun q2r => some q2r))
noncomputable def fy_B_columnBy (G : ai_G) (s : yS) (v0 : Nat) (v1 : Int32) (v2 : Int32) (v3 : Int32) : Option (Int32) :=
  (gR 0 0 s v0).bind fun x4 =>
  (gR 1 2 s x4).bind fun x7 =>
  (gR 0 0 s v0).bind fun x11 =>
  (ck 1 s x11).bind fun _ =>
  (fy_River_cell G s x11 v1 v2).bind fun p16 =>
  (aI s x7 p16).bind fun x19 =>
  (gR 0 0 s v0).bind fun x22 =>
  (gI 1 8 s x22).bind fun x25 =>
  (fy_B_within ((v1 + v3) + x19) (x25 - 1)).bind fun p30 =>
  (gR 0 0 s v0).bind fun x36 =>
  (gR 1 4 s x36).bind fun x39 =>
  (gR 0 0 s v0).bind fun x43 =>
  (ck 1 s x43).bind fun _ =>
  (fy_River_cell G s x43 p30 (v2 + 1)).bind fun p51 =>
  (aB G s x39 p51).bind fun x54 =>
  if x54 = 0 then (
    some p30)
  else (
    some (-1))
noncomputable def fy_B_goMeet_b2 (G : ai_G) (v0 : Nat) (v1 : Int32) (q : Int32 × yS) : Option ((Int32 × yS) ⊕ yS) :=
  (gR 0 19 q.2 v0).bind fun x4 =>
  (aL G q.2 x4).bind fun x7 =>
  if x7 ≤ q.1 then (
    some (.inr q.2))
  else (
    (gR 0 19 q.2 v0).bind fun x12 =>
    (wB q.2 x12 q.1 0).bind fun s17 =>
    some (.inl ((q.1 + 1), s17)))
noncomputable def fy_B_goMeet_b37 (G : ai_G) (v0 : Nat) (v1 : Int32) (v2 : Int32) (q : Int32 × yS) : Option ((Int32 × yS) ⊕ yS) :=
  (gR 0 18 q.2 v0).bind fun x38 =>
  (aB G q.2 x38 v2).bind fun x42 =>
  if x42 = 0 then (
    some (.inr q.2))
  else (
    if 9 ≤ q.1 then (
      some (.inr q.2))
    else (
      (dv v2 8).bind fun x56 =>
      (dv q.1 3).bind fun x60 =>
      (ck 0 q.2 v0).bind fun _ =>
      (fy_B_columnBy G q.2 v0 x56 v1 (x60 - 1)).bind fun p63 =>
      (rm v2 8).bind fun x72 =>
      (rm q.1 3).bind fun x76 =>
      (ck 0 q.2 v0).bind fun _ =>
      (fy_B_columnBy G q.2 v0 x72 v1 (x76 - 1)).bind fun p79 =>
      if p63 < 0 then (
        some (.inl ((q.1 + 1), q.2)))
      else (
        if p79 < 0 then (
          some (.inl ((q.1 + 1), q.2)))
        else (
          (gR 0 19 q.2 v0).bind fun x95 =>
          (wB q.2 x95 ((8 * p63) + p79) 1).bind fun s107 =>
          some (.inl ((q.1 + 1), s107))))))
noncomputable def fy_B_goMeet_b26 (G : ai_G) (v0 : Nat) (v1 : Int32) (q : Int32 × yS) : Option ((Int32 × yS) ⊕ yS) :=
  (gR 0 18 q.2 v0).bind fun x28 =>
  (aL G q.2 x28).bind fun x31 =>
  if x31 ≤ q.1 then (
    some (.inr q.2))
  else (
    (lp (fy_B_goMeet_b37 G v0 v1 q.1) (0, q.2)).bind fun q37 =>
    some (.inl ((q.1 + 1), q37)))
noncomputable def fy_B_goMeet (G : ai_G) (s : yS) (v0 : Nat) (v1 : Int32) : Option (yS) :=
  (lp (fy_B_goMeet_b2 G v0 v1) (0, s)).bind fun q2 =>
  (lp (fy_B_goMeet_b26 G v0 v1) (0, q2)).bind fun q26 =>
  (gR 0 19 q26 v0).bind fun x121 =>
  (gR 0 18 q26 v0).bind fun x126 =>
  (gR 0 18 q26 v0).bind fun x131 =>
  (aL G q26 x131).bind fun x134 =>
  (cpI q26 x121 0 x126 0 x134).bind fun s135 =>
  some s135
noncomputable def fy_B_meet_b46 (G : ai_G) (v0 : Nat) (v1 : Int32) (v2 : Int32) (q : Int32 × yS) : Option ((Int32 × yS) ⊕ yS) :=
  (gR 0 18 q.2 v0).bind fun x48 =>
  (aL G q.2 x48).bind fun x51 =>
  if x51 ≤ q.1 then (
    some (.inr q.2))
  else (
    (gR 0 18 q.2 v0).bind fun x56 =>
    (gR 0 1 q.2 v0).bind fun x64 =>
    (gR 2 0 q.2 x64).bind fun x67 =>
    (aI q.2 x67 v1).bind fun x71 =>
    (gR 0 1 q.2 v0).bind fun x74 =>
    (gR 2 0 q.2 x74).bind fun x77 =>
    (aI q.2 x77 v2).bind fun x81 =>
    if q.1 = ((8 * x71) + x81) then (
      (wB q.2 x56 q.1 1).bind fun s91 =>
      some (.inl ((q.1 + 1), s91)))
    else (
      (wB q.2 x56 q.1 0).bind fun s91 =>
      some (.inl ((q.1 + 1), s91))))
noncomputable def fy_B_meet_b100 (G : ai_G) (v0 : Nat) (v1 : Int32) (q : Int32 × yS) : Option ((Int32 × yS) ⊕ (yS ⊕ (Int32 × yS))) :=
  (ck 0 q.2 v0).bind fun _ =>
  (fy_B_strokesLeft G q.2 v0 v1).bind fun p103 =>
  if p103 < q.1 then (
    some (.inr (.inl q.2)))
  else (
    (ck 0 q.2 v0).bind fun _ =>
    (fy_B_areSideBySide G q.2 v0).bind fun p110 =>
    if p110 = 0 then (
      (ck 0 q.2 v0).bind fun _ =>
      (fy_B_strokesLeft G q.2 v0 v1).bind fun p121 =>
      if p121 ≤ q.1 then (
        some (.inl ((q.1 + 1), q.2)))
      else (
        (gR 0 1 q.2 v0).bind fun x129 =>
        (gR 2 1 q.2 x129).bind fun x132 =>
        (aI q.2 x132 v1).bind fun x136 =>
        (ck 0 q.2 v0).bind fun _ =>
        (fy_B_goMeet G q.2 v0 (x136 + q.1)).bind fun p139 =>
        some (.inl ((q.1 + 1), p139))))
    else (
      some (.inr (.inr (q.1, q.2)))))
noncomputable def fy_B_meet (G : ai_G) (s : yS) (v0 : Nat) (v1 : Int32) (v2 : Int32) : Option (Int32 × yS) :=
  (ck 0 s v0).bind fun _ =>
  (fy_B_isBoard G s v0 v1).bind fun p2 =>
  if p2 = 0 then (
    some ((-1), s))
  else (
    (ck 0 s v0).bind fun _ =>
    (fy_B_isBoard G s v0 v2).bind fun p10 =>
    if p10 = 0 then (
      some ((-1), s))
    else (
      if v1 = v2 then (
        some ((-1), s))
      else (
        (gR 0 1 s v0).bind fun x22 =>
        (gR 2 1 s x22).bind fun x25 =>
        (aI s x25 v1).bind fun x29 =>
        (gR 0 1 s v0).bind fun x31 =>
        (gR 2 1 s x31).bind fun x34 =>
        (aI s x34 v2).bind fun x38 =>
        if x29 = x38 then (
          (lp (fy_B_meet_b46 G v0 v1 v2) (0, s)).bind fun q46 =>
          (lp (fy_B_meet_b100 G v0 v1) (0, q46)).bind (Sum.elim (fun q100 =>
            some ((-1), q100)) (fun q100r => some q100r)))
        else (
          some ((-1), s)))))
noncomputable def fy_B_has (v0 : Int32) (v1 : Int32) : Option (Int32) :=
  if ((v0 >>> (v1 &&& 31)) &&& 1) = 1 then (
    some 1)
  else (
    some 0)
noncomputable def fy_B_goMoor_b63 (G : ai_G) (rec : yS → Nat → Int32 → Int32 → Int32 → Int32 → Option (yS)) (v0 : Nat) (v1 : Int32) (v2 : Int32) (v3 : Int32) (v4 : Int32) (q : Int32 × yS) : Option ((Int32 × yS) ⊕ yS) :=
  (gR 0 0 q.2 v0).bind fun x66 =>
  (gI 1 8 q.2 x66).bind fun x69 =>
  if x69 ≤ q.1 then (
    some (.inr q.2))
  else (
    (gR 0 1 q.2 v0).bind fun x76 =>
    (gR 2 1 q.2 x76).bind fun x79 =>
    (aI q.2 x79 v1).bind fun x83 =>
    if x83 = 0 then (
      (fy_B_has v2 q.1).bind fun p90 =>
      if p90 = 0 then (
        (gR 0 22 q.2 v0).bind fun x97 =>
        (aI q.2 x97 v1).bind fun x101 =>
        (fy_B_has x101 q.1).bind fun p104 =>
        if p104 = 0 then (
          some (.inl ((q.1 + 1), q.2)))
        else (
          (gR 0 12 q.2 v0).bind fun x114 =>
          (wA q.2 x114 v1 q.1).bind fun s120 =>
          (gR 0 1 s120 v0).bind fun x139 =>
          (gR 2 0 s120 x139).bind fun x142 =>
          (aI s120 x142 v1).bind fun x146 =>
          (ck 0 s120 v0).bind fun _ =>
          (rec s120 v0 (v1 + 1) (v2 ||| (1 <<< (q.1 &&& 31))) (v3 + 1) (v4 + (iabs (q.1 - x146)))).bind fun p152 =>
          some (.inl ((q.1 + 1), p152))))
      else (
        some (.inl ((q.1 + 1), q.2))))
    else (
      some (.inl ((q.1 + 1), q.2))))
noncomputable def fy_B_goMoor_j34 (G : ai_G) (rec : yS → Nat → Int32 → Int32 → Int32 → Int32 → Option (yS)) (s : yS) (v0 : Nat) (v1 : Int32) (v3 : Int32) (v4 : Int32) : Option (yS) :=
  (wI 0 20 s v0 v3).bind fun s36 =>
  (wI 0 21 s36 v0 v4).bind fun s42 =>
  (gR 0 12 s42 v0).bind fun x46 =>
  (gR 0 11 s42 v0).bind fun x51 =>
  (cpI s42 x46 0 x51 0 v1).bind fun s56 =>
  some s56
noncomputable def fy_B_goMoor (G : ai_G) (rec : yS → Nat → Int32 → Int32 → Int32 → Int32 → Option (yS)) (s : yS) (v0 : Nat) (v1 : Int32) (v2 : Int32) (v3 : Int32) (v4 : Int32) : Option (yS) :=
  (ck 0 s v0).bind fun _ =>
  (fy_B_boards G s v0).bind fun p2 =>
  if v1 = p2 then (
    (gI 0 20 s v0).bind fun x10 =>
    if v3 < x10 then (
      some s)
    else (
      (gI 0 20 s v0).bind fun x18 =>
      if v3 = x18 then (
        (gI 0 21 s v0).bind fun x27 =>
        if v4 < x27 then (
          fy_B_goMoor_j34 G rec s v0 v1 v3 v4)
        else (
          some s))
      else (
        fy_B_goMoor_j34 G rec s v0 v1 v3 v4)))
  else (
    (lp (fy_B_goMoor_b63 G rec v0 v1 v2 v3 v4) (0, s)).bind fun q63 =>
    (gR 0 12 q63 v0).bind fun x162 =>
    (wA q63 x162 v1 (-1)).bind fun s167 =>
    (ck 0 s167 v0).bind fun _ =>
    (rec s167 v0 (v1 + 1) v2 v3 v4).bind fun p176 =>
    some p176)
noncomputable def fy_B_goMoor_N (G : ai_G) : Nat → yS → Nat → Int32 → Int32 → Int32 → Int32 → Option (yS)
  | 0 => fun _ _ _ _ _ _ => none
  | n + 1 => fy_B_goMoor G (fy_B_goMoor_N G n)
noncomputable def fy_B_mooring_b13 (G : ai_G) (v0 : Nat) (v1 : Int32) (q : Int32 × yS) : Option ((Int32 × yS) ⊕ yS) :=
  (ck 0 q.2 v0).bind fun _ =>
  (fy_B_boards G q.2 v0).bind fun p15 =>
  if p15 ≤ q.1 then (
    some (.inr q.2))
  else (
    (gR 0 22 q.2 v0).bind fun x22 =>
    (gR 0 1 q.2 v0).bind fun x27 =>
    (gR 2 1 q.2 x27).bind fun x30 =>
    (aI q.2 x30 q.1).bind fun x34 =>
    if x34 = 0 then (
      (ck 0 q.2 v0).bind fun _ =>
      (fy_B_landingsOf G q.2 v0 q.1).bind fun p40 =>
      (wA p40.2 x22 q.1 p40.1).bind fun s47 =>
      some (.inl ((q.1 + 1), s47)))
    else (
      (wA q.2 x22 q.1 0).bind fun s47 =>
      some (.inl ((q.1 + 1), s47))))
noncomputable def fy_B_mooring (G : ai_G) (s : yS) (v0 : Nat) (v1 : Int32) : Option (Int32 × yS) :=
  (fy_B_isIn v1 0 1).bind fun p3 =>
  if p3 = 0 then (
    some ((-1), s))
  else (
    (lp (fy_B_mooring_b13 G v0 v1) (0, s)).bind fun q13 =>
    (wI 0 20 q13 v0 (-1)).bind fun s56 =>
    (ck 0 s56 v0).bind fun _ =>
    (fy_B_goMoor_N G 6 s56 v0 0 0 0 0).bind fun p64 =>
    (ck 0 p64 v0).bind fun _ =>
    (fy_B_boards G p64 v0).bind fun p69 =>
    (wI 0 13 p64 v0 p69).bind fun s72 =>
    if v1 = 0 then (
      (gI 0 20 s72 v0).bind fun x80 =>
      some (x80, s72))
    else (
      (gI 0 21 s72 v0).bind fun x87 =>
      some (x87, s72)))
noncomputable def fy_B_good_j11 (G : ai_G) (s : yS) (v0 : Nat) (v1 : Int32) (v2 : Int32) (t0 : Int32) : Option (Int32) :=
  (gR 0 1 s v0).bind fun x13 =>
  (gR 2 0 s x13).bind fun x16 =>
  (aI s x16 v1).bind fun x20 =>
  some (t0 - (iabs (v2 - x20)))
noncomputable def fy_B_good (G : ai_G) (s : yS) (v0 : Nat) (v1 : Int32) (v2 : Int32) (v3 : Int32) : Option (Int32) :=
  if v2 = v3 then (
    fy_B_good_j11 G s v0 v1 v2 3)
  else (
    fy_B_good_j11 G s v0 v1 v2 9)
noncomputable def fy_B_rests_j45 (G : ai_G) (s : yS) (v0 : Nat) (v1 : Int32) (v2 : Int32) (v3 : Int32) (v4 : Int32) (v5 : Int32) (v6 : Int32) (v7 : Int32) : Option (Int32 ⊕ (Unit ⊕ Int32)) :=
  (fy_B_has v6 v7).bind fun p49 =>
  if p49 = 0 then (
    some (.inl (v7 + 1)))
  else (
    (ck 0 s v0).bind fun _ =>
    (fy_B_good G s v0 v2 v7 v3).bind fun p60 =>
    (ck 0 s v0).bind fun _ =>
    (fy_B_good G s v0 v2 v4 v3).bind fun p68 =>
    if p60 ≤ p68 then (
      some (.inl (v7 + 1)))
    else (
      some (.inr (.inr 0))))
noncomputable def fy_B_rests_b3 (G : ai_G) (s : yS) (v0 : Nat) (v1 : Int32) (v2 : Int32) (v3 : Int32) (v4 : Int32) (v5 : Int32) (v6 : Int32) (q : Int32) : Option (Int32 ⊕ (Unit ⊕ Int32)) :=
  (gR 0 0 s v0).bind fun x6 =>
  (gI 1 8 s x6).bind fun x9 =>
  if x9 ≤ q then (
    some (.inr (.inl ())))
  else (
    (fy_B_has v5 q).bind fun p19 =>
    if p19 = 0 then (
      fy_B_rests_j45 G s v0 v1 v2 v3 v4 v5 v6 q)
    else (
      (ck 0 s v0).bind fun _ =>
      (fy_B_good G s v0 v1 q v4).bind fun p31 =>
      (ck 0 s v0).bind fun _ =>
      (fy_B_good G s v0 v1 v3 v4).bind fun p39 =>
      if p39 < p31 then (
        some (.inr (.inr 0)))
      else (
        fy_B_rests_j45 G s v0 v1 v2 v3 v4 v5 v6 q)))
noncomputable def fy_B_rests (G : ai_G) (s : yS) (v0 : Nat) (v1 : Int32) (v2 : Int32) (v3 : Int32) (v4 : Int32) (v5 : Int32) (v6 : Int32) : Option (Int32) :=
  (lp (fy_B_rests_b3 G s v0 v1 v2 v3 v4 v5 v6) 0).bind (Sum.elim (fun q3 =>
    some 1) (fun q3r => some q3r))
noncomputable def fy_B_guests_b73 (G : ai_G) (v0 : Nat) (v1 : Int32) (v2 : Int32) (v3 : Int32) (v4 : Int32) (v6 : Int32) (q : Int32 × Int32 × yS) : Option ((Int32 × Int32 × yS) ⊕ (Int32 × yS)) :=
  (gR 0 0 q.2.2 v0).bind fun x76 =>
  (gI 1 8 q.2.2 x76).bind fun x79 =>
  if x79 ≤ q.2.1 then (
    some (.inr (q.1, q.2.2)))
  else (
    (fy_B_has v3 v6).bind fun p88 =>
    if p88 = 0 then (
      some (.inl (q.1, (q.2.1 + 1), q.2.2)))
    else (
      (fy_B_has v4 q.2.1).bind fun p98 =>
      if p98 = 0 then (
        some (.inl (q.1, (q.2.1 + 1), q.2.2)))
      else (
        (ck 0 q.2.2 v0).bind fun _ =>
        (fy_B_rests G q.2.2 v0 v1 v2 v6 q.2.1 v3 v4).bind fun p114 =>
        if p114 = 0 then (
          some (.inl (q.1, (q.2.1 + 1), q.2.2)))
        else (
          if (q.1 + 1) ≤ 1 then (
            (gR 0 11 q.2.2 v0).bind fun x136 =>
            (wA q.2.2 x136 0 v6).bind fun s142 =>
            (gR 0 11 s142 v0).bind fun x144 =>
            (wA s142 x144 1 q.2.1).bind fun s150 =>
            (wI 0 13 s150 v0 2).bind fun s153 =>
            some (.inl ((q.1 + 1), (q.2.1 + 1), s153)))
          else (
            some (.inl ((q.1 + 1), (q.2.1 + 1), q.2.2)))))))
noncomputable def fy_B_guests_b58 (G : ai_G) (v0 : Nat) (v1 : Int32) (v2 : Int32) (v3 : Int32) (v4 : Int32) (q : Int32 × Int32 × yS) : Option ((Int32 × Int32 × yS) ⊕ (Int32 × yS)) :=
  (gR 0 0 q.2.2 v0).bind fun x61 =>
  (gI 1 8 q.2.2 x61).bind fun x64 =>
  if x64 ≤ q.2.1 then (
    some (.inr (q.1, q.2.2)))
  else (
    (lp (fy_B_guests_b73 G v0 v1 v2 v3 v4 q.2.1) (q.1, 0, q.2.2)).bind fun q73 =>
    some (.inl (q73.1, (q.2.1 + 1), q73.2)))
noncomputable def fy_B_guests (G : ai_G) (s : yS) (v0 : Nat) (v1 : Int32) (v2 : Int32) : Option (Int32 × yS) :=
  (wI 0 13 s v0 0).bind fun s2 =>
  (ck 0 s2 v0).bind fun _ =>
  (fy_B_isBoard G s2 v0 v1).bind fun p7 =>
  if p7 = 0 then (
    some ((-1), s2))
  else (
    (ck 0 s2 v0).bind fun _ =>
    (fy_B_isBoard G s2 v0 v2).bind fun p15 =>
    if p15 = 0 then (
      some ((-1), s2))
    else (
      if v1 = v2 then (
        some ((-1), s2))
      else (
        (ck 0 s2 v0).bind fun _ =>
        (fy_B_landingsOf G s2 v0 v1).bind fun p30 =>
        (ck 0 p30.2 v0).bind fun _ =>
        (fy_B_landingsOf G p30.2 v0 v2).bind fun p36 =>
        if p30.1 = 0 then (
          some ((-1), p36.2))
        else (
          if p36.1 = 0 then (
            some ((-1), p36.2))
          else (
            (lp (fy_B_guests_b58 G v0 v1 v2 p30.1 p36.1) (0, 0, p36.2)).bind fun q58 =>
            some (q58.1, q58.2))))))
noncomputable def fy_B_singe_b23 (G : ai_G) (v0 : Nat) (v1 : Int32) (q : Int32 × yS) : Option ((Int32 × yS) ⊕ (yS ⊕ (Int32 × yS))) :=
  (ck 0 q.2 v0).bind fun _ =>
  (fy_B_strokesLeft G q.2 v0 v1).bind fun p26 =>
  if p26 < q.1 then (
    some (.inr (.inl q.2)))
  else (
    (gR 0 2 q.2 v0).bind fun x33 =>
    (gR 0 0 q.2 v0).bind fun x37 =>
    (ck 2 q.2 x33).bind fun _ =>
    (fy_State_stroke G q.2 x33 x37 v1 0 1 0).bind fun p44 =>
    if p44.1 = 0 then (
      some (.inl ((q.1 + 1), p44.2)))
    else (
      if p44.1 = 2 then (
        some (.inr (.inr (q.1, p44.2))))
      else (
        some (.inr (.inr ((-1), p44.2))))))
noncomputable def fy_B_singe (G : ai_G) (s : yS) (v0 : Nat) (v1 : Int32) : Option (Int32 × yS) :=
  (ck 0 s v0).bind fun _ =>
  (fy_B_isBoard G s v0 v1).bind fun p2 =>
  if p2 = 0 then (
    some ((-1), s))
  else (
    (gR 0 2 s v0).bind fun x11 =>
    (gR 0 1 s v0).bind fun x15 =>
    (ck 2 s x11).bind fun _ =>
    (fy_State_of G s x11 x15).bind fun p18 =>
    (lp (fy_B_singe_b23 G v0 v1) (1, p18)).bind (Sum.elim (fun q23 =>
      some ((-1), q23)) (fun q23r => some q23r)))
noncomputable def fy_B_landsBy_j59 (G : ai_G) (s : yS) (v0 : Nat) (v1 : Int32) (v2 : Int32) (v3 : Int32) (v4 : Int32) (v6 : Int32) (v7 : Int32) (t0 : Int32) (t1 : Int32) : Option ((Int32 × Int32 × yS) ⊕ ((Int32 × yS) ⊕ (Int32 × yS))) :=
  (gR 0 2 s v0).bind fun x63 =>
  (gR 0 0 s v0).bind fun x67 =>
  (ck 2 s x63).bind fun _ =>
  (fy_State_stroke G s x63 x67 v1 0 1 v7).bind fun p75 =>
  (rm p75.1 2).bind fun x79 =>
  if x79 = 1 then (
    some (.inr (.inr (0, p75.2))))
  else (
    some (.inl ((t0 * t1), (v6 + 1), p75.2)))
noncomputable def fy_B_landsBy_b17 (G : ai_G) (v0 : Nat) (v1 : Int32) (v2 : Int32) (v3 : Int32) (v4 : Int32) (q : Int32 × Int32 × yS) : Option ((Int32 × Int32 × yS) ⊕ ((Int32 × yS) ⊕ (Int32 × yS))) :=
  if v3 ≤ q.2.1 then (
    some (.inr (.inl (q.1, q.2.2))))
  else (
    (fy_B_has v4 q.2.1).bind fun p27 =>
    if p27 = 0 then (
      (gR 0 0 q.2.2 v0).bind fun x52 =>
      (gI 1 14 q.2.2 x52).bind fun x55 =>
      fy_B_landsBy_j59 G q.2.2 v0 v1 v2 v3 v4 q.2.1 p27 q.1 (100 - x55))
    else (
      (gR 0 0 q.2.2 v0).bind fun x40 =>
      (gI 1 14 q.2.2 x40).bind fun x43 =>
      fy_B_landsBy_j59 G q.2.2 v0 v1 v2 v3 v4 q.2.1 p27 q.1 x43))
noncomputable def fy_B_landsBy (G : ai_G) (s : yS) (v0 : Nat) (v1 : Int32) (v2 : Int32) (v3 : Int32) (v4 : Int32) : Option (Int32 × yS) :=
  (gR 0 2 s v0).bind fun x1 =>
  (gR 0 1 s v0).bind fun x5 =>
  (ck 2 s x1).bind fun _ =>
  (fy_State_of G s x1 x5).bind fun p8 =>
  (lp (fy_B_landsBy_b17 G v0 v1 v2 v3 v4) (1, 0, p8)).bind (Sum.elim (fun q17 =>
    (gR 0 2 q17.2 v0).bind fun x93 =>
    (gR 2 0 q17.2 x93).bind fun x96 =>
    (aI q17.2 x96 v1).bind fun x100 =>
    if x100 = v2 then (
      some (q17.1, q17.2))
    else (
      some (0, q17.2))) (fun q17r => some q17r))
noncomputable def fy_B_common (rec : Int32 → Int32 → Option (Int32)) (v0 : Int32) (v1 : Int32) : Option (Int32) :=
  if v1 = 0 then (
    some v0)
  else (
    (rm v0 v1).bind fun x11 =>
    (rec v1 x11).bind fun p12 =>
    some p12)
noncomputable def fy_B_common_N : Nat → Int32 → Int32 → Option (Int32)
  | 0 => fun _ _ => none
  | n + 1 => fy_B_common (fy_B_common_N n)
noncomputable def fy_B_odds_b58 (G : ai_G) (v0 : Nat) (v1 : Int32) (v2 : Int32) (v3 : Int32) (v4 : Int32) (q : Int32 × Int32 × yS) : Option ((Int32 × Int32 × yS) ⊕ (Int32 × yS)) :=
  if (1 <<< (v4 &&& 31)) ≤ q.2.1 then (
    some (.inr (q.1, q.2.2)))
  else (
    (ck 0 q.2.2 v0).bind fun _ =>
    (fy_B_landsBy G q.2.2 v0 v1 v2 v4 q.2.1).bind fun p76 =>
    some (.inl ((q.1 + p76.1), (q.2.1 + 1), p76.2)))
noncomputable def fy_B_odds (G : ai_G) (s : yS) (v0 : Nat) (v1 : Int32) (v2 : Int32) (v3 : Int32) : Option (Int32 × yS) :=
  (ck 0 s v0).bind fun _ =>
  (fy_B_isBoard G s v0 v1).bind fun p2 =>
  if p2 = 0 then (
    some ((-1), s))
  else (
    (gR 0 0 s v0).bind fun x11 =>
    (gI 1 8 s x11).bind fun x14 =>
    (fy_B_isIn v2 0 (x14 - 1)).bind fun p19 =>
    if p19 = 0 then (
      some ((-1), s))
    else (
      (fy_B_isIn v3 0 1).bind fun p28 =>
      if p28 = 0 then (
        some ((-1), s))
      else (
        (ck 0 s v0).bind fun _ =>
        (fy_B_strokesLeft G s v0 v1).bind fun p36 =>
        if p36 ≤ 4 then (
          (ck 0 s v0).bind fun _ =>
          (fy_B_strokesLeft G s v0 v1).bind fun p47 =>
          (lp (fy_B_odds_b58 G v0 v1 v2 v3 p47) (0, 0, s)).bind fun q58 =>
          (fy_B_power 100 p47).bind fun p92 =>
          if v3 = 0 then (
            (fy_B_common_N 64 p92 q58.1).bind fun p112 =>
            (dv q58.1 p112).bind fun x115 =>
            some (x115, q58.2))
          else (
            (fy_B_common_N 64 p92 q58.1).bind fun p112 =>
            (dv p92 p112).bind fun x115 =>
            some (x115, q58.2)))
        else (
          some ((-1), s)))))
noncomputable def fy_B_over (G : ai_G) (s : yS) (v0 : Nat) : Option (Int32) :=
  (gR 0 1 s v0).bind fun x1 =>
  (gR 0 0 s v0).bind fun x5 =>
  (ck 2 s x1).bind fun _ =>
  (fy_State_loadsAt G s x1 x5 (-2)).bind fun p10 =>
  some p10
noncomputable def fy_B_left (G : ai_G) (s : yS) (v0 : Nat) : Option (Int32) :=
  (gR 0 0 s v0).bind fun x1 =>
  (ck 0 s v0).bind fun _ =>
  (fy_B_loads G s v0).bind fun p6 =>
  (ck 0 s v0).bind fun _ =>
  (fy_B_over G s v0).bind fun p13 =>
  (ck 1 s x1).bind fun _ =>
  (fy_River_widthOf G s x1 (((1 <<< (p6 &&& 31)) - 1) &&& (p13 ^^^ (-1)))).bind fun p19 =>
  some p19
noncomputable def fy_B_pulled_b4 (G : ai_G) (s : yS) (v0 : Nat) (q : Int32 × Int32) : Option ((Int32 × Int32) ⊕ Int32) :=
  (ck 0 s v0).bind fun _ =>
  (fy_B_boards G s v0).bind fun p6 =>
  if p6 ≤ q.2 then (
    some (.inr q.1))
  else (
    (gR 0 0 s v0).bind fun x13 =>
    (gR 1 2 s x13).bind fun x16 =>
    (gR 0 0 s v0).bind fun x20 =>
    (gR 0 1 s v0).bind fun x24 =>
    (gR 2 0 s x24).bind fun x27 =>
    (aI s x27 q.2).bind fun x31 =>
    (gR 0 1 s v0).bind fun x33 =>
    (gR 2 1 s x33).bind fun x36 =>
    (aI s x36 q.2).bind fun x40 =>
    (ck 1 s x20).bind fun _ =>
    (fy_River_cell G s x20 x31 x40).bind fun p41 =>
    (aI s x16 p41).bind fun x44 =>
    if x44 ≤ 0 then (
      some (.inl (q.1, (q.2 + 1))))
    else (
      some (.inl ((q.1 ||| (1 <<< (q.2 &&& 31))), (q.2 + 1)))))
noncomputable def fy_B_pulled (G : ai_G) (s : yS) (v0 : Nat) : Option (Int32) :=
  (lp (fy_B_pulled_b4 G s v0) (0, 0)).bind fun q4 =>
  some q4
noncomputable def fy_B_bearsYet (G : ai_G) (s : yS) (v0 : Nat) (v1 : Int32) : Option (Int32) :=
  (gR 0 0 s v0).bind fun x1 =>
  (gR 1 0 s x1).bind fun x4 =>
  (ck 16 s x4).bind fun _ =>
  (fy_List_get G s x4 v1).bind fun p8 =>
  (ck 9 s p8).bind fun _ =>
  (gI 9 3 s p8).bind fun x14 =>
  (gR 0 1 s v0).bind fun x18 =>
  (gR 2 2 s x18).bind fun x21 =>
  (aI s x21 v1).bind fun x25 =>
  some (x14 - x25)
noncomputable def fy_B_hottest_b4 (G : ai_G) (s : yS) (v0 : Nat) (q : Int32 × Int32) : Option ((Int32 × Int32) ⊕ Int32) :=
  (ck 0 s v0).bind fun _ =>
  (fy_B_boards G s v0).bind fun p6 =>
  if p6 ≤ q.2 then (
    some (.inr q.1))
  else (
    if q.1 < 0 then (
      some (.inl (q.2, (q.2 + 1))))
    else (
      (ck 0 s v0).bind fun _ =>
      (fy_B_bearsYet G s v0 q.2).bind fun p18 =>
      (ck 0 s v0).bind fun _ =>
      (fy_B_bearsYet G s v0 q.1).bind fun p23 =>
      if p23 ≤ p18 then (
        some (.inl (q.1, (q.2 + 1))))
      else (
        some (.inl (q.2, (q.2 + 1))))))
noncomputable def fy_B_hottest (G : ai_G) (s : yS) (v0 : Nat) : Option (Int32) :=
  (lp (fy_B_hottest_b4 G s v0) ((-1), 0)).bind fun q4 =>
  some q4
noncomputable def fy_B_law_b16 (G : ai_G) (s : yS) (v0 : Nat) (v1 : Int32) (q : Int32 × Int32) : Option ((Int32 × Int32) ⊕ Int32) :=
  (ck 0 s v0).bind fun _ =>
  (fy_B_loads G s v0).bind fun p18 =>
  if p18 ≤ q.2 then (
    some (.inr q.1))
  else (
    (gR 0 1 s v0).bind fun x25 =>
    (gR 2 5 s x25).bind fun x28 =>
    (aI s x28 q.2).bind fun x32 =>
    if x32 = (-1) then (
      (gR 0 0 s v0).bind fun x38 =>
      (gR 1 1 s x38).bind fun x41 =>
      (ck 16 s x41).bind fun _ =>
      (fy_List_get G s x41 q.2).bind fun p45 =>
      (ck 10 s p45).bind fun _ =>
      (gI 10 1 s p45).bind fun x51 =>
      if v1 < x51 then (
        some (.inl (q.1, (q.2 + 1))))
      else (
        some (.inl ((q.1 + 1), (q.2 + 1)))))
    else (
      some (.inl (q.1, (q.2 + 1)))))
noncomputable def fy_B_law (G : ai_G) (s : yS) (v0 : Nat) (v1 : Int32) : Option (Int32) :=
  (fy_B_isIn v1 0 99).bind fun p4 =>
  if p4 = 0 then (
    some (-1))
  else (
    (lp (fy_B_law_b16 G s v0 v1) (0, 0)).bind fun q16 =>
    some q16)
noncomputable def fy_B_lies (G : ai_G) (s : yS) (v0 : Nat) (v1 : Int32) : Option (Int32) :=
  (gI 0 13 s v0).bind fun x3 =>
  (fy_B_isIn v1 0 (x3 - 1)).bind fun p8 =>
  if p8 = 0 then (
    some (-2))
  else (
    (gR 0 11 s v0).bind fun x15 =>
    (aI s x15 v1).bind fun x19 =>
    some x19)
noncomputable def fy_Sight_init (G : ai_G) (s : yS) (v0 : Nat) (v1 : Int32) (v2 : Int32) (v3 : Int32) (v4 : Int32) (v5 : Int32) : Option (yS) :=
  (wI 15 5 s v0 (-1)).bind fun s6 =>
  (wI 15 0 s6 v0 v1).bind fun s11 =>
  (wI 15 1 s11 v0 v2).bind fun s16 =>
  (wZ 15 3 s16 v0 v3).bind fun s21 =>
  (wZ 15 4 s21 v0 v4).bind fun s27 =>
  (wI 15 2 s27 v0 v5).bind fun s33 =>
  some s33
noncomputable def fy_B_see (G : ai_G) (s : yS) (v0 : Nat) (v1 : Int32) (v2 : Int32) (v3 : Int32) (v4 : Int32) : Option (Int32 × yS) :=
  (ck 0 s v0).bind fun _ =>
  (fy_B_boards G s v0).bind fun p1 =>
  if p1 = 0 then (
    some ((-1), s))
  else (
    (gR 0 0 s v0).bind fun x10 =>
    (gI 1 9 s x10).bind fun x13 =>
    (fy_B_isIn v1 1 x13).bind fun p16 =>
    if p16 = 0 then (
      some ((-1), s))
    else (
      (gR 0 23 s v0).bind fun x23 =>
      (ck 16 s x23).bind fun _ =>
      (fy_List_size G s x23).bind fun p26 =>
      if p26 = 30 then (
        some ((-1), s))
      else (
        (gR 0 23 s v0).bind fun x37 =>
        (mk 15 s).bind fun s40 =>
        (gI 0 6 s40.2 v0).bind fun x52 =>
        (fy_Sight_init G s40.2 s40.1 (v1 - 1) v2 v3 v4 x52).bind fun p55 =>
        (ck 16 p55 x37).bind fun _ =>
        (fy_List_add G p55 x37 s40.1).bind fun p58 =>
        (gR 0 23 p58.2 v0).bind fun x63 =>
        (ck 16 p58.2 x63).bind fun _ =>
        (fy_List_size G p58.2 x63).bind fun p66 =>
        some ((p66 - 1), p58.2))))
noncomputable def fy_B_passed (G : ai_G) (s : yS) (v0 : Nat) (v1 : Int32) (v2 : Int32) (v3 : Int32) : Option (Int32 × yS) :=
  (fy_B_isIn v2 0 7).bind fun p4 =>
  if p4 = 0 then (
    some ((-1), s))
  else (
    (ck 0 s v0).bind fun _ =>
    (fy_B_see G s v0 v1 v2 0 v3).bind fun p15 =>
    some (p15.1, p15.2))
noncomputable def fy_B_felt (G : ai_G) (s : yS) (v0 : Nat) (v1 : Int32) (v2 : Int32) (v3 : Int32) : Option (Int32 × yS) :=
  (fy_B_isIn v2 0 99).bind fun p4 =>
  if p4 = 0 then (
    some ((-1), s))
  else (
    (ck 0 s v0).bind fun _ =>
    (fy_B_see G s v0 v1 v2 1 v3).bind fun p15 =>
    some (p15.1, p15.2))
noncomputable def fy_B_untell (G : ai_G) (s : yS) (v0 : Nat) (v1 : Int32) : Option (Int32 × yS) :=
  (gR 0 23 s v0).bind fun x3 =>
  (ck 16 s x3).bind fun _ =>
  (fy_List_size G s x3).bind fun p6 =>
  (fy_B_isIn v1 0 (p6 - 1)).bind fun p11 =>
  if p11 = 0 then (
    some (0, s))
  else (
    (gR 0 23 s v0).bind fun x18 =>
    (ck 16 s x18).bind fun _ =>
    (fy_List_get G s x18 v1).bind fun p22 =>
    (ck 15 s p22).bind fun _ =>
    (gI 15 5 s p22).bind fun x28 =>
    if x28 < 0 then (
      (gR 0 23 s v0).bind fun x37 =>
      (ck 16 s x37).bind fun _ =>
      (fy_List_get G s x37 v1).bind fun p41 =>
      (ck 15 s p41).bind fun _ =>
      (gI 0 6 s v0).bind fun x48 =>
      (wI 15 5 s p41 x48).bind fun s51 =>
      some (1, s51))
    else (
      some (0, s)))
noncomputable def fy_B_later (G : ai_G) (s : yS) (v0 : Nat) (v1 : Int32) : Option (Int32 × yS) :=
  if v1 < 0 then (
    some ((-1), s))
  else (
    if 1000 < v1 then (
      some ((-1), s))
    else (
      (gI 0 6 s v0).bind fun x12 =>
      if (x12 + v1) ≤ 100000 then (
        (gI 0 6 s v0).bind fun x27 =>
        (wI 0 6 s v0 (x27 + v1)).bind fun s32 =>
        (gI 0 6 s32 v0).bind fun x36 =>
        some (x36, s32))
      else (
        some ((-1), s))))
noncomputable def fy_Sight_counts (G : ai_G) (s : yS) (v0 : Nat) (v1 : Int32) : Option (Int32) :=
  (gI 15 2 s v0).bind fun x1 =>
  if v1 < x1 then (
    some 0)
  else (
    (gI 15 5 s v0).bind fun x9 =>
    if x9 < 0 then (
      some 1)
    else (
      (gI 15 5 s v0).bind fun x16 =>
      if x16 ≤ v1 then (
        some 0)
      else (
        some 1)))
noncomputable def fy_B_doesFit_j81 (G : ai_G) (s : yS) (v0 : Nat) (v1 : Int32) (v2 : Int32) (v3 : Nat) (v4 : Nat) (t0 : Int32) : Option (yS ⊕ (yS ⊕ (Int32 × yS))) :=
  (gI 15 1 s v4).bind fun x87 =>
  if t0 < x87 then (
    (gI 15 4 s v4).bind fun x100 =>
    if 0 = x100 then (
      some (.inl s))
    else (
      some (.inr (.inr (0, s)))))
  else (
    (gI 15 4 s v4).bind fun x100 =>
    if 1 = x100 then (
      some (.inl s))
    else (
      some (.inr (.inr (0, s)))))
noncomputable def fy_B_doesFit_b8 (G : ai_G) (v0 : Nat) (v1 : Int32) (v2 : Int32) (v3 : Nat) (q : yS) : Option (yS ⊕ (yS ⊕ (Int32 × yS))) :=
  (ck 17 q v3).bind fun _ =>
  (fy_Itr_hasNext G q v3).bind fun p9 =>
  if p9 = 0 then (
    some (.inr (.inl q)))
  else (
    (ck 17 q v3).bind fun _ =>
    (fy_Itr_next G q v3).bind fun p18 =>
    (ck 15 p18.2 p18.1).bind fun _ =>
    (ck 15 p18.2 p18.1).bind fun _ =>
    (fy_Sight_counts G p18.2 p18.1 v2).bind fun p31 =>
    if p31 = 0 then (
      some (.inl p18.2))
    else (
      (gI 15 3 p18.2 p18.1).bind fun x42 =>
      if x42 = 0 then (
        (gR 0 24 p18.2 v0).bind fun x67 =>
        (gI 15 0 p18.2 p18.1).bind fun x76 =>
        (aI p18.2 x67 ((6 * v1) + x76)).bind fun x80 =>
        fy_B_doesFit_j81 G p18.2 v0 v1 v2 v3 p18.1 x80)
      else (
        (gR 0 25 p18.2 v0).bind fun x49 =>
        (gI 15 0 p18.2 p18.1).bind fun x58 =>
        (aI p18.2 x49 ((6 * v1) + x58)).bind fun x62 =>
        fy_B_doesFit_j81 G p18.2 v0 v1 v2 v3 p18.1 x62)))
noncomputable def fy_B_doesFit (G : ai_G) (s : yS) (v0 : Nat) (v1 : Int32) (v2 : Int32) : Option (Int32 × yS) :=
  (gR 0 23 s v0).bind fun x1 =>
  (ck 16 s x1).bind fun _ =>
  (fy_List_iterator G s x1).bind fun p4 =>
  (lp (fy_B_doesFit_b8 G v0 v1 v2 p4.1) p4.2).bind (Sum.elim (fun q8 =>
    some (1, q8)) (fun q8r => some q8r))
noncomputable def fy_B_layFits_b7 (G : ai_G) (v0 : Nat) (v1 : Int32) (q : Int32 × yS) : Option ((Int32 × yS) ⊕ yS) :=
  (gR 0 26 q.2 v0).bind fun x9 =>
  (aL G q.2 x9).bind fun x12 =>
  if x12 ≤ q.1 then (
    some (.inr q.2))
  else (
    (gR 0 26 q.2 v0).bind fun x17 =>
    (wA q.2 x17 q.1 0).bind fun s22 =>
    some (.inl ((q.1 + 1), s22)))
noncomputable def fy_B_layFits_b69 (G : ai_G) (v0 : Nat) (v1 : Int32) (v2 : Int32) (v3 : Int32) (q : Int32 × yS) : Option ((Int32 × yS) ⊕ yS) :=
  if v2 ≤ q.1 then (
    some (.inr q.2))
  else (
    (gR 0 2 q.2 v0).bind fun x76 =>
    (gR 0 0 q.2 v0).bind fun x80 =>
    (fy_B_steerOf v3 v2 q.1).bind fun p88 =>
    (ck 2 q.2 x76).bind fun _ =>
    (fy_State_stroke G q.2 x76 x80 0 p88 1 0).bind fun p93 =>
    (gR 0 24 p93.2 v0).bind fun x99 =>
    (gR 0 2 p93.2 v0).bind fun x110 =>
    (gR 2 0 p93.2 x110).bind fun x113 =>
    (aI p93.2 x113 0).bind fun x117 =>
    (wA p93.2 x99 ((6 * v3) + q.1) x117).bind fun s118 =>
    (gR 0 25 s118 v0).bind fun x120 =>
    (gR 0 2 s118 v0).bind fun x131 =>
    (gR 2 2 s118 x131).bind fun x134 =>
    (aI s118 x134 0).bind fun x138 =>
    (wA s118 x120 ((6 * v3) + q.1) x138).bind fun s139 =>
    some (.inl ((q.1 + 1), s139)))
noncomputable def fy_B_layFits_b171 (G : ai_G) (v0 : Nat) (v1 : Int32) (v2 : Int32) (v3 : Int32) (q : Int32 × yS) : Option ((Int32 × yS) ⊕ yS) :=
  if v2 ≤ q.1 then (
    some (.inr q.2))
  else (
    (gR 0 26 q.2 v0).bind fun x178 =>
    (fy_B_steerOf v3 v2 q.1).bind fun p189 =>
    (aI q.2 x178 (((3 * q.1) + p189) + 1)).bind fun x196 =>
    (wA q.2 x178 (((3 * q.1) + p189) + 1) (x196 + 1)).bind fun s199 =>
    some (.inl ((q.1 + 1), s199)))
noncomputable def fy_B_layFits_b39 (G : ai_G) (v0 : Nat) (v1 : Int32) (v2 : Int32) (q : Int32 × yS) : Option ((Int32 × yS) ⊕ yS) :=
  (ck 0 q.2 v0).bind fun _ =>
  (fy_B_boards G q.2 v0).bind fun p40 =>
  if p40 ≤ 0 then (
    some (.inr q.2))
  else (
    (fy_B_power 3 v2).bind fun p49 =>
    if p49 ≤ q.1 then (
      some (.inr q.2))
    else (
      (gR 0 2 q.2 v0).bind fun x56 =>
      (gR 0 0 q.2 v0).bind fun x60 =>
      (ck 2 q.2 x56).bind fun _ =>
      (fy_State_begin G q.2 x56 x60).bind fun p63 =>
      (lp (fy_B_layFits_b69 G v0 v1 v2 q.1) (0, p63)).bind fun q69 =>
      (ck 0 q69 v0).bind fun _ =>
      (fy_B_doesFit G q69 v0 q.1 v1).bind fun p149 =>
      if p149.1 = 0 then (
        some (.inl ((q.1 + 1), p149.2)))
      else (
        (gI 0 27 p149.2 v0).bind fun x160 =>
        (wI 0 27 p149.2 v0 (x160 + 1)).bind fun s165 =>
        (lp (fy_B_layFits_b171 G v0 v1 v2 q.1) (0, s165)).bind fun q171 =>
        some (.inl ((q.1 + 1), q171)))))
noncomputable def fy_B_layFits (G : ai_G) (s : yS) (v0 : Nat) (v1 : Int32) : Option (yS) :=
  (wI 0 27 s v0 0).bind fun s2 =>
  (lp (fy_B_layFits_b7 G v0 v1) (0, s2)).bind fun q7 =>
  (gR 0 0 q7 v0).bind fun x30 =>
  (gI 1 9 q7 x30).bind fun x33 =>
  (lp (fy_B_layFits_b39 G v0 v1 x33) (0, q7)).bind fun q39 =>
  some q39
noncomputable def fy_B_fits (G : ai_G) (s : yS) (v0 : Nat) (v1 : Int32) : Option (Int32 × yS) :=
  (ck 0 s v0).bind fun _ =>
  (fy_B_layFits G s v0 v1).bind fun p2 =>
  (gI 0 27 p2 v0).bind fun x6 =>
  some (x6, p2)
noncomputable def fy_B_sure_b35 (G : ai_G) (s : yS) (v0 : Nat) (v1 : Int32) (q : Int32) : Option (Int32 ⊕ (Unit ⊕ (Int32 × yS))) :=
  if 2 ≤ q then (
    some (.inr (.inl ())))
  else (
    (gR 0 26 s v0).bind fun x41 =>
    (aI s x41 (((3 * (v1 - 1)) + q) + 1)).bind fun x53 =>
    (gI 0 27 s v0).bind fun x55 =>
    if x53 = x55 then (
      some (.inr (.inr (q, s))))
    else (
      some (.inl (q + 1))))
noncomputable def fy_B_sure (G : ai_G) (s : yS) (v0 : Nat) (v1 : Int32) (v2 : Int32) : Option (Int32 × yS) :=
  (gR 0 0 s v0).bind fun x3 =>
  (gI 1 9 s x3).bind fun x6 =>
  (fy_B_isIn v1 1 x6).bind fun p9 =>
  if p9 = 0 then (
    some ((-3), s))
  else (
    (ck 0 s v0).bind fun _ =>
    (fy_B_layFits G s v0 v2).bind fun p20 =>
    (gI 0 27 p20 v0).bind fun x24 =>
    if x24 = 0 then (
      some ((-3), p20))
    else (
      (lp (fy_B_sure_b35 G p20 v0 v1) (-1)).bind (Sum.elim (fun q35 =>
        some ((-2), p20)) (fun q35r => some q35r))))
noncomputable def fy_B_mostOf (G : ai_G) (s : yS) (v0 : Nat) (v1 : Int32) : Option (Int32) :=
  (gR 0 26 s v0).bind fun x1 =>
  (aI s x1 (3 * v1)).bind fun x7 =>
  (gR 0 26 s v0).bind fun x9 =>
  (aI s x9 ((3 * v1) + 1)).bind fun x17 =>
  (gR 0 26 s v0).bind fun x19 =>
  (aI s x19 ((3 * v1) + 2)).bind fun x27 =>
  some (imax x7 (imax x17 x27))
noncomputable def fy_B_ask_b30 (G : ai_G) (s : yS) (v0 : Nat) (v1 : Int32) (q : Int32 × Int32) : Option ((Int32 × Int32) ⊕ Int32) :=
  (gR 0 0 s v0).bind fun x33 =>
  (gI 1 9 s x33).bind fun x36 =>
  if x36 ≤ q.2 then (
    some (.inr q.1))
  else (
    (ck 0 s v0).bind fun _ =>
    (fy_B_mostOf G s v0 q.2).bind fun p45 =>
    (ck 0 s v0).bind fun _ =>
    (fy_B_mostOf G s v0 q.1).bind fun p50 =>
    if p50 ≤ p45 then (
      some (.inl (q.1, (q.2 + 1))))
    else (
      some (.inl (q.2, (q.2 + 1)))))
noncomputable def fy_B_ask (G : ai_G) (s : yS) (v0 : Nat) (v1 : Int32) (v2 : Int32) : Option (Int32 × yS) :=
  (fy_B_isIn v1 0 1).bind fun p3 =>
  if p3 = 0 then (
    some ((-1), s))
  else (
    (ck 0 s v0).bind fun _ =>
    (fy_B_layFits G s v0 v2).bind fun p13 =>
    (gI 0 27 p13 v0).bind fun x17 =>
    if x17 = 0 then (
      some ((-1), p13))
    else (
      (lp (fy_B_ask_b30 G p13 v0 v1) (0, 1)).bind fun q30 =>
      if v1 = 0 then (
        some ((q30 + 1), p13))
      else (
        (ck 0 p13 v0).bind fun _ =>
        (fy_B_mostOf G p13 v0 q30).bind fun p77 =>
        some (p77, p13))))
noncomputable def fy_B_image (G : ai_G) (s : yS) (v0 : Nat) (v1 : Int32) : Option (Int32 × yS) :=
  (fy_B_isIn v1 0 2).bind fun p3 =>
  if p3 = 0 then (
    some ((-1), s))
  else (
    (gR 0 28 s v0).bind fun x12 =>
    (aE G s x12 v1).bind fun x16 =>
    (gR 0 1 s v0).bind fun x18 =>
    (fy_B_copy G s x18).bind fun p21 =>
    (wR 6 0 p21.2 x16 (some p21.1)).bind fun s24 =>
    (ck 0 s24 v0).bind fun _ =>
    (fy_B_over G s24 v0).bind fun p28 =>
    (fy_J14_bitCount p28).bind fun p31 =>
    some (p31, s24))
noncomputable def fy_B_back (G : ai_G) (s : yS) (v0 : Nat) (v1 : Int32) : Option (Int32 × yS) :=
  (fy_B_isIn v1 0 2).bind fun p3 =>
  if p3 = 0 then (
    some ((-1), s))
  else (
    (gR 0 28 s v0).bind fun x10 =>
    (aE G s x10 v1).bind fun x14 =>
    (gN 6 0 s x14).bind fun x15 =>
    if x15 = none then (
      some ((-1), s))
    else (
      (gR 0 1 s v0).bind fun x24 =>
      (gR 0 28 s v0).bind fun x28 =>
      (aE G s x28 v1).bind fun x32 =>
      (gR 6 0 s x32).bind fun x33 =>
      (ck 2 s x24).bind fun _ =>
      (fy_State_of G s x24 x33).bind fun p36 =>
      (gR 0 9 p36 v0).bind fun x40 =>
      (ck 16 p36 x40).bind fun _ =>
      (fy_List_clear G p36 x40).bind fun p43 =>
      (gR 0 10 p43 v0).bind fun x47 =>
      (ck 16 p43 x47).bind fun _ =>
      (fy_List_clear G p43 x47).bind fun p50 =>
      (ck 0 p50 v0).bind fun _ =>
      (fy_B_over G p50 v0).bind fun p54 =>
      (fy_J14_bitCount p54).bind fun p57 =>
      some (p57, p50)))
noncomputable def fy_B_about (G : ai_G) (s : yS) (v0 : Nat) (v1 : Int32) : Option (Int32) :=
  if v1 = 0 then (
    (ck 0 s v0).bind fun _ =>
    (fy_B_boards G s v0).bind fun p69 =>
    some p69)
  else if v1 = 1 then (
    (ck 0 s v0).bind fun _ =>
    (fy_B_loads G s v0).bind fun p74 =>
    some p74)
  else if v1 = 2 then (
    (gR 0 0 s v0).bind fun x79 =>
    (gI 1 8 s x79).bind fun x82 =>
    some x82)
  else if v1 = 3 then (
    (gR 0 0 s v0).bind fun x87 =>
    (gI 1 9 s x87).bind fun x90 =>
    some x90)
  else if v1 = 4 then (
    (gR 0 0 s v0).bind fun x95 =>
    (gI 1 14 s x95).bind fun x98 =>
    some x98)
  else if v1 = 5 then (
    (gR 0 1 s v0).bind fun x103 =>
    (gI 2 6 s x103).bind fun x106 =>
    some x106)
  else if v1 = 6 then (
    (gR 0 9 s v0).bind fun x111 =>
    (ck 16 s x111).bind fun _ =>
    (fy_List_size G s x111).bind fun p114 =>
    some p114)
  else if v1 = 7 then (
    (gR 0 10 s v0).bind fun x119 =>
    (ck 16 s x119).bind fun _ =>
    (fy_List_size G s x119).bind fun p122 =>
    some p122)
  else if v1 = 8 then (
    (gR 0 23 s v0).bind fun x127 =>
    (ck 16 s x127).bind fun _ =>
    (fy_List_size G s x127).bind fun p130 =>
    some p130)
  else if v1 = 9 then (
    (gI 0 6 s v0).bind fun x135 =>
    some x135)
  else if v1 = 10 then (
    (gI 0 5 s v0).bind fun x140 =>
    some x140)
  else if v1 = 11 then (
    (gR 0 0 s v0).bind fun x145 =>
    (gI 1 13 s x145).bind fun x148 =>
    some x148)
  else if v1 = 12 then (
    (gI 0 13 s v0).bind fun x153 =>
    some x153)
  else (
    some (-1))

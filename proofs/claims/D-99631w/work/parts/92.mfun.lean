/-! THE MODEL AS FUNCTIONS (printed by tools/decm.py) -/
set_option maxRecDepth 100000
noncomputable def fm_four_b3 (v1 : Int32) (q : Int32 × mS) : Option ((Int32 × mS) ⊕ mS) :=
  if q.1 < 0 then (
    some (.inr q.2))
  else (
    (sto 1 1600 q.2 (q.2.1 1) ((v1 >>> (q.1 &&& 31)) &&& 255)).bind fun s22 =>
    (pI 1 s22 ((s22.1 1) + 1)).bind fun s30 =>
    some (.inl ((q.1 + (-8)), s30)))
noncomputable def fm_four (s : mS) (v1 : Int32) : Option (mS) :=
  (lp (fm_four_b3 v1) (24, s)).bind fun q3 =>
  some q3
noncomputable def fm_feed (s : mS) (v1 : Int32) (v2 : Int32) (v3 : Int32) (v4 : Int32) (v5 : Int32) : Option (Int32 × mS) :=
  if ((s.1 1) + 20) ≤ 1600 then (
    (fm_four s v1).bind fun p17 =>
    (fm_four p17 v2).bind fun p22 =>
    (fm_four p22 v3).bind fun p27 =>
    (fm_four p27 v4).bind fun p33 =>
    (fm_four p33 v5).bind fun p39 =>
    some ((p39.1 1), p39))
  else (
    some ((-1), s))
noncomputable def fm_end (s : mS) (v1 : Int32) : Option (Int32 × mS) :=
  if v1 < 0 then (
    some ((-1), s))
  else (
    if v1 ≤ (s.1 1) then (
      (pI 1 s v1).bind fun s16 =>
      some (v1, s16))
    else (
      some ((-1), s)))
noncomputable def fm_here (s : mS) (v1 : Int32) : Option (Int32) :=
  if (s.1 5) ≤ ((s.1 4) + v1) then (
    some (-1))
  else (
    (ld 1 1600 s ((s.1 4) + v1)).bind fun x23 =>
    some x23)
noncomputable def fm_isLetter (v0 : Int32) : Option (Int32) :=
  if v0 < 97 then (
    some 0)
  else (
    if 122 < v0 then (
      some 0)
    else (
      some 1))
noncomputable def fm_isDigit (v0 : Int32) : Option (Int32) :=
  if v0 < 48 then (
    some 0)
  else (
    if 57 < v0 then (
      some 0)
    else (
      some 1))
noncomputable def fm_isSign (v0 : Int32) : Option (Int32) :=
  if v0 = 59 then (
    some 1)
  else (
    if v0 = 40 then (
      some 1)
    else (
      if v0 = 41 then (
        some 1)
      else (
        if v0 = 60 then (
          some 1)
        else (
          if v0 = 62 then (
            some 1)
          else (
            if v0 = 61 then (
              some 1)
            else (
              if v0 = 43 then (
                some 1)
              else (
                if v0 = 45 then (
                  some 1)
                else (
                  if v0 = 42 then (
                    some 1)
                  else (
                    if v0 = 47 then (
                      some 1)
                    else (
                      if v0 = 37 then (
                        some 1)
                      else (
                        some 0)))))))))))
noncomputable def fm_token_j20 (s : mS) : Option (mS ⊕ mS) :=
  (pI 4 s ((s.1 4) + 1)).bind fun s27 =>
  some (.inl s27)
noncomputable def fm_token_b0  (q : mS) : Option (mS ⊕ mS) :=
  (fm_here q 0).bind fun p2 =>
  if p2 = 32 then (
    fm_token_j20 q)
  else (
    (fm_here q 0).bind fun p12 =>
    if p12 = 10 then (
      fm_token_j20 q)
    else (
      some (.inr q)))
noncomputable def fm_token_j232 (s : mS) (v2 : Int32) : Option (mS) :=
  if (s.1 6) = 3 then (
    some s)
  else (
    (pI 4 s ((s.1 4) + v2)).bind fun s247 =>
    some s247)
noncomputable def fm_token_j229 (s : mS) (v2 : Int32) (t1 : Int32) : Option (mS) :=
  (pI 6 s t1).bind fun s229 =>
  fm_token_j232 s229 v2
noncomputable def fm_token_b144  (q : Int32 × mS) : Option ((Int32 × mS) ⊕ (Int32 × mS)) :=
  (fm_here q.2 q.1).bind fun p146 =>
  (fm_isDigit p146).bind fun p149 =>
  if p149 = 0 then (
    some (.inr (q.1, q.2)))
  else (
    if 4 ≤ q.1 then (
      some (.inl ((q.1 + 1), q.2)))
    else (
      (fm_here q.2 q.1).bind fun p170 =>
      (pI 8 q.2 (((10 * (q.2.1 8)) + p170) - 48)).bind fun s177 =>
      some (.inl ((q.1 + 1), s177))))
noncomputable def fm_token_j208 (s : mS) (v2 : Int32) (t1 : Int32) : Option (mS) :=
  (pI 6 s t1).bind fun s208 =>
  fm_token_j232 s208 v2
noncomputable def fm_token_j203 (s : mS) (v2 : Int32) : Option (mS) :=
  fm_token_j208 s v2 3
noncomputable def fm_token_b78  (q : Int32 × mS) : Option ((Int32 × mS) ⊕ (Int32 × mS)) :=
  (fm_here q.2 q.1).bind fun p80 =>
  (fm_isLetter p80).bind fun p83 =>
  if p83 = 0 then (
    some (.inr (q.1, q.2)))
  else (
    if 8 ≤ q.1 then (
      some (.inl ((q.1 + 1), q.2)))
    else (
      (fm_here q.2 q.1).bind fun p105 =>
      (pW q.2 ((q.2.2.1 <<< (Int32.toInt64 8 &&& 63)) ||| (Int32.toInt64 p105))).bind fun s110 =>
      some (.inl ((q.1 + 1), s110))))
noncomputable def fm_token_j131 (s : mS) (v2 : Int32) (t1 : Int32) : Option (mS) :=
  (pI 6 s t1).bind fun s131 =>
  fm_token_j232 s131 v2
noncomputable def fm_token (s : mS) : Option (mS) :=
  (lp fm_token_b0 s).bind fun q0 =>
  (pI 7 q0 (q0.1 4)).bind fun s38 =>
  (fm_here s38 0).bind fun p43 =>
  (pW s38 0).bind fun s51 =>
  (pI 8 s51 0).bind fun s56 =>
  if 0 ≤ p43 then (
    (fm_isLetter p43).bind fun p72 =>
    if p72 = 0 then (
      (fm_isDigit p43).bind fun p138 =>
      if p138 = 0 then (
        (fm_isSign p43).bind fun p218 =>
        if p218 = 0 then (
          fm_token_j229 s56 1 3)
        else (
          fm_token_j229 s56 1 p43))
      else (
        (lp fm_token_b144 (0, s56)).bind fun q144 =>
        if 4 < q144.1 then (
          fm_token_j203 q144.2 q144.1)
        else (
          (fm_here q144.2 q144.1).bind fun p194 =>
          (fm_isLetter p194).bind fun p197 =>
          if p197 = 0 then (
            fm_token_j208 q144.2 q144.1 2)
          else (
            fm_token_j203 q144.2 q144.1))))
    else (
      (lp fm_token_b78 (0, s56)).bind fun q78 =>
      if q78.1 ≤ 8 then (
        fm_token_j131 q78.2 q78.1 1)
      else (
        fm_token_j131 q78.2 q78.1 3)))
  else (
    (pI 6 s56 0).bind fun s65 =>
    fm_token_j232 s65 0)
noncomputable def fm_isWord (s : mS) (v1 : Int64) : Option (Int32) :=
  if (s.1 6) = 1 then (
    if (lg_cmp s.2.1 v1) = 0 then (
      some 1)
    else (
      some 0))
  else (
    some 0)
noncomputable def fm_wrong (s : mS) (v1 : Int32) : Option (mS) :=
  if (s.1 2) ≤ 0 then (
    if (s.1 6) = 3 then (
      (pI 2 s 1).bind fun s22 =>
      (pI 3 s22 (s22.1 7)).bind fun s30 =>
      some s30)
    else (
      (pI 2 s v1).bind fun s22 =>
      (pI 3 s22 (s22.1 7)).bind fun s30 =>
      some s30))
  else (
    some s)
noncomputable def fm_toldNumber_j46 (s : mS) : Option (Int32 × mS) :=
  if (s.1 2) = 0 then (
    (fm_token s).bind fun p59 =>
    some ((s.1 8), p59))
  else (
    some ((s.1 8), s))
noncomputable def fm_toldNumber_j41 (s : mS) : Option (Int32 × mS) :=
  (fm_wrong s 4).bind fun p43 =>
  fm_toldNumber_j46 p43
noncomputable def fm_toldNumber (s : mS) (v1 : Int32) (v2 : Int32) : Option (Int32 × mS) :=
  if (s.1 2) ≤ 0 then (
    if (s.1 6) = 2 then (
      if (s.1 8) < v1 then (
        fm_toldNumber_j41 s)
      else (
        if (s.1 8) ≤ v2 then (
          fm_toldNumber_j46 s)
        else (
          fm_toldNumber_j41 s)))
    else (
      (fm_wrong s 2).bind fun p19 =>
      fm_toldNumber_j46 p19))
  else (
    some (0, s))
noncomputable def fm_want (s : mS) (v1 : Int64) : Option (mS) :=
  if (s.1 2) ≤ 0 then (
    (fm_isWord s v1).bind fun p10 =>
    if p10 = 0 then (
      (fm_wrong s 2).bind fun p18 =>
      some p18)
    else (
      (fm_token s).bind fun p25 =>
      some p25))
  else (
    some s)
noncomputable def fm_told (s : mS) (v1 : Int64) (v3 : Int32) (v4 : Int32) : Option (Int32 × mS) :=
  (fm_want s v1).bind fun p2 =>
  (fm_toldNumber p2 v3 v4).bind fun p9 =>
  some (p9.1, p9.2)
noncomputable def fm_readWater (s : mS) : Option (mS) :=
  (fm_token s).bind fun p1 =>
  (fm_toldNumber p1 1 8).bind fun p9 =>
  (pI 38 p9.2 p9.1).bind fun s12 =>
  (fm_told s12 25209 1 6).bind fun p23 =>
  (pI 39 p23.2 p23.1).bind fun s26 =>
  some s26
noncomputable def fm_readCell_10_j64 (s : mS) (v2 : Int32) (v3 : Int32) (v4 : Int32) : Option (Int32 × mS) :=
  (fm_toldNumber s v2 v3).bind fun p69 =>
  some (((8 * p69.1) + v4), p69.2)
noncomputable def fm_readCell_10 (s : mS) (v2 : Int32) (v3 : Int32) : Option (Int32 × mS) :=
  (fm_toldNumber s 0 ((s.1 38) - 1)).bind fun p8 =>
  if (p8.2.1 2) = 0 then (
    if (p8.2.1 6) = 2 then (
      if (p8.2.1 8) < v2 then (
        fm_readCell_10_j64 p8.2 v2 v3 p8.1)
      else (
        if v3 < (p8.2.1 8) then (
          fm_readCell_10_j64 p8.2 v2 v3 p8.1)
        else (
          (ld 10 56 p8.2 ((8 * (p8.2.1 8)) + p8.1)).bind fun x55 =>
          if x55 < 0 then (
            fm_readCell_10_j64 p8.2 v2 v3 p8.1)
          else (
            (fm_wrong p8.2 3).bind fun p61 =>
            fm_readCell_10_j64 p61 v2 v3 p8.1))))
    else (
      fm_readCell_10_j64 p8.2 v2 v3 p8.1))
  else (
    fm_readCell_10_j64 p8.2 v2 v3 p8.1)
noncomputable def fm_readCurrent (s : mS) : Option (mS) :=
  (fm_token s).bind fun p1 =>
  (fm_toldNumber p1 0 7).bind fun p8 =>
  (fm_want p8.2 24948).bind fun p16 =>
  (fm_readCell_10 p16 0 ((p16.1 39) - 1)).bind fun p31 =>
  if (p31.2.1 2) ≤ 0 then (
    (sto 10 56 p31.2 p31.1 p8.1).bind fun s49 =>
    (pI 40 s49 ((s49.1 40) + 1)).bind fun s57 =>
    some s57)
  else (
    some p31.2)
noncomputable def fm_readCell_11_j64 (s : mS) (v2 : Int32) (v3 : Int32) (v4 : Int32) : Option (Int32 × mS) :=
  (fm_toldNumber s v2 v3).bind fun p69 =>
  some (((8 * p69.1) + v4), p69.2)
noncomputable def fm_readCell_11 (s : mS) (v2 : Int32) (v3 : Int32) : Option (Int32 × mS) :=
  (fm_toldNumber s 0 ((s.1 38) - 1)).bind fun p8 =>
  if (p8.2.1 2) = 0 then (
    if (p8.2.1 6) = 2 then (
      if (p8.2.1 8) < v2 then (
        fm_readCell_11_j64 p8.2 v2 v3 p8.1)
      else (
        if v3 < (p8.2.1 8) then (
          fm_readCell_11_j64 p8.2 v2 v3 p8.1)
        else (
          (ld 11 56 p8.2 ((8 * (p8.2.1 8)) + p8.1)).bind fun x55 =>
          if x55 < 0 then (
            fm_readCell_11_j64 p8.2 v2 v3 p8.1)
          else (
            (fm_wrong p8.2 3).bind fun p61 =>
            fm_readCell_11_j64 p61 v2 v3 p8.1))))
    else (
      fm_readCell_11_j64 p8.2 v2 v3 p8.1))
  else (
    fm_readCell_11_j64 p8.2 v2 v3 p8.1)
noncomputable def fm_readIron (s : mS) : Option (mS) :=
  (fm_token s).bind fun p1 =>
  (fm_readCell_11 p1 1 ((p1.1 39) - 1)).bind fun p16 =>
  if (p16.2.1 2) ≤ 0 then (
    (sto 11 56 p16.2 p16.1 1).bind fun s34 =>
    (pI 41 s34 ((s34.1 41) + 1)).bind fun s42 =>
    some s42)
  else (
    some p16.2)
noncomputable def fm_isOwn (s : mS) : Option (Int32) :=
  if (lg_cmp s.2.1 512736126322) = 0 then (
    some 1)
  else (
    if (lg_cmp s.2.1 25209) = 0 then (
      some 1)
    else (
      if (lg_cmp s.2.1 27995157100326516) = 0 then (
        some 1)
      else (
        if (lg_cmp s.2.1 24948) = 0 then (
          some 1)
        else (
          if (lg_cmp s.2.1 1769107310) = 0 then (
            some 1)
          else (
            if (lg_cmp s.2.1 422775452260) = 0 then (
              some 1)
            else (
              if (lg_cmp s.2.1 2003395685) = 0 then (
                some 1)
              else (
                if (lg_cmp s.2.1 422607680115) = 0 then (
                  some 1)
                else (
                  if (lg_cmp s.2.1 1819238756) = 0 then (
                    some 1)
                  else (
                    if (lg_cmp s.2.1 1751474548) = 0 then (
                      some 1)
                    else (
                      if (lg_cmp s.2.1 439905906532) = 0 then (
                        some 1)
                      else (
                        if (lg_cmp s.2.1 1685217655) = 0 then (
                          some 1)
                        else (
                          if (lg_cmp s.2.1 7499639) = 0 then (
                            some 1)
                          else (
                            if (lg_cmp s.2.1 109330212154734) = 0 then (
                              some 1)
                            else (
                              if (lg_cmp s.2.1 32497657166128499) = 0 then (
                                some 1)
                              else (
                                if (lg_cmp s.2.1 6844276) = 0 then (
                                  some 1)
                                else (
                                  if (lg_cmp s.2.1 6385252) = 0 then (
                                    some 1)
                                  else (
                                    if (lg_cmp s.2.1 28530) = 0 then (
                                      some 1)
                                    else (
                                      if (lg_cmp s.2.1 7237492) = 0 then (
                                        some 1)
                                      else (
                                        some 0)))))))))))))))))))
noncomputable def fm_isName (s : mS) : Option (Int32) :=
  if (s.1 6) = 1 then (
    (fm_isOwn s).bind fun p9 =>
    if p9 = 0 then (
      some 1)
    else (
      some 0))
  else (
    some 0)
noncomputable def fm_newName_b18 (v1 : Int32) (v2 : Int32) (q : Int32 × mS) : Option ((Int32 × mS) ⊕ mS) :=
  if v2 ≤ q.1 then (
    some (.inr q.2))
  else (
    if (q.2.1 2) = 0 then (
      (ldJ q.2 (v1 + q.1)).bind fun x37 =>
      if (lg_cmp x37 q.2.2.1) = 0 then (
        (fm_wrong q.2 3).bind fun p48 =>
        some (.inl ((q.1 + 1), p48)))
      else (
        some (.inl ((q.1 + 1), q.2))))
    else (
      some (.inr q.2)))
noncomputable def fm_newName_j57 (s : mS) (v1 : Int32) (v2 : Int32) : Option (mS) :=
  if (s.1 2) ≤ 0 then (
    (stJ s (v1 + v2) s.2.1).bind fun s76 =>
    (fm_token s76).bind fun p78 =>
    some p78)
  else (
    some s)
noncomputable def fm_newName (s : mS) (v1 : Int32) (v2 : Int32) : Option (mS) :=
  (fm_token s).bind fun p1 =>
  (fm_isName p1).bind fun p5 =>
  if p5 = 0 then (
    (fm_wrong p1 2).bind fun p13 =>
    (lp (fm_newName_b18 v1 v2) (0, p13)).bind fun q18 =>
    fm_newName_j57 q18 v1 v2)
  else (
    (lp (fm_newName_b18 v1 v2) (0, p1)).bind fun q18 =>
    fm_newName_j57 q18 v1 v2)
noncomputable def fm_readBoard_j87 (s : mS) (t1 : Int32) (t2 : Int32) : Option (mS) :=
  (sto 14 4 s t1 t2).bind fun s87 =>
  if (s87.1 2) = 0 then (
    (pI 42 s87 ((s87.1 42) + 1)).bind fun s102 =>
    some s102)
  else (
    some s87)
noncomputable def fm_readBoard_j85 (s : mS) (t1 : Int32) : Option (mS) :=
  fm_readBoard_j87 s t1 20
noncomputable def fm_readBoard (s : mS) : Option (mS) :=
  (fm_newName s 0 (s.1 42)).bind fun p6 =>
  (fm_told p6 2003395685 0 99).bind fun p26 =>
  (sto 12 4 p26.2 (p6.1 42) p26.1).bind fun s29 =>
  (fm_told s29 24948 0 ((s29.1 38) - 1)).bind fun p46 =>
  (sto 13 4 p46.2 (p6.1 42) p46.1).bind fun s49 =>
  if (s49.1 2) = 0 then (
    (fm_isWord s49 422607680115).bind fun p66 =>
    if p66 = 0 then (
      fm_readBoard_j85 s49 (p6.1 42))
    else (
      (fm_told s49 422607680115 0 99).bind fun p79 =>
      fm_readBoard_j87 p79.2 (p6.1 42) p79.1))
  else (
    fm_readBoard_j85 s49 (p6.1 42))
noncomputable def fm_readLoad (s : mS) : Option (mS) :=
  (fm_newName s 4 (s.1 43)).bind fun p6 =>
  (fm_told p6 2003395685 0 99).bind fun p24 =>
  (sto 15 7 p24.2 (p6.1 43) p24.1).bind fun s27 =>
  if (s27.1 2) = 0 then (
    (pI 43 s27 ((s27.1 43) + 1)).bind fun s42 =>
    some s42)
  else (
    some s27)
noncomputable def fm_tight (v0 : Int32) : Option (Int32) :=
  if v0 = 21 then (
    some 3)
  else if v0 = 38 then (
    some 2)
  else if v0 = 43 then (
    some 5)
  else if v0 = 45 then (
    some 5)
  else if v0 = 60 then (
    some 4)
  else if v0 = 61 then (
    some 4)
  else if v0 = 62 then (
    some 4)
  else if v0 = 124 then (
    some 1)
  else (
    some 6)
noncomputable def fm_mayNot (s : mS) : Option (Int32) :=
  if (s.1 19) = 0 then (
    some 1)
  else (
    (ld 7 160 s ((s.1 19) - 1)).bind fun x17 =>
    if x17 = 20 then (
      some 1)
    else (
      (ld 7 160 s ((s.1 19) - 1)).bind fun x33 =>
      (fm_tight x33).bind fun p34 =>
      if 4 ≤ p34 then (
        some 0)
      else (
        some 1)))
noncomputable def fm_openUp (s : mS) (v1 : Int32) : Option (mS) :=
  (sto 7 160 s (s.1 19) v1).bind fun s9 =>
  (pI 19 s9 ((s9.1 19) + 1)).bind fun s17 =>
  (pI 23 s17 ((s17.1 23) + 1)).bind fun s27 =>
  if (s27.1 2) = 0 then (
    (fm_token s27).bind fun p38 =>
    some p38)
  else (
    some s27)
noncomputable def fm_isFull (s : mS) : Option (Int32) :=
  if (s.1 20) = 60 then (
    some 1)
  else (
    if (s.1 22) = 30 then (
      some 1)
    else (
      some 0))
noncomputable def fm_countUnit (s : mS) : Option (mS) :=
  (pI 20 s ((s.1 20) + 1)).bind fun s7 =>
  (pI 22 s7 ((s7.1 22) + 1)).bind fun s17 =>
  some s17
noncomputable def fm_asked (s : mS) : Option (Int32) :=
  if (s.1 6) = 1 then (
    if (lg_cmp s.2.1 7499639) = 0 then (
      some 0)
    else (
      if (lg_cmp s.2.1 109330212154734) = 0 then (
        some 1)
      else (
        if (lg_cmp s.2.1 1819238756) = 0 then (
          some 2)
        else (
          if (lg_cmp s.2.1 2003395685) = 0 then (
            some 3)
          else (
            if (lg_cmp s.2.1 32497657166128499) = 0 then (
              some 4)
            else (
              if (lg_cmp s.2.1 6844276) = 0 then (
                some 5)
              else (
                some (-1))))))))
  else (
    some (-1))
noncomputable def fm_add (s : mS) (v1 : Int32) (v2 : Int32) : Option (mS) :=
  (sto 3 320 s (s.1 17) v1).bind fun s9 =>
  (sto 4 320 s9 (s9.1 17) v2).bind fun s19 =>
  (pI 17 s19 ((s19.1 17) + 1)).bind fun s27 =>
  some s27
noncomputable def fm_unit_j78 (s : mS) (v1 : Int32) : Option ((Int32 × mS) ⊕ mS) :=
  (fm_wrong s 2).bind fun p80 =>
  (fm_countUnit p80).bind fun p84 =>
  (fm_openUp p84 20).bind fun p90 =>
  some (.inl (v1, p90))
noncomputable def fm_unit_j53 (s : mS) (v1 : Int32) : Option ((Int32 × mS) ⊕ mS) :=
  if (s.1 6) = 40 then (
    (fm_isFull s).bind fun p63 =>
    if p63 = 0 then (
      if (s.1 23) ≤ 6 then (
        (fm_countUnit s).bind fun p84 =>
        (fm_openUp p84 20).bind fun p90 =>
        some (.inl (v1, p90)))
      else (
        fm_unit_j78 s v1))
    else (
      fm_unit_j78 s v1))
  else (
    some (.inl (0, s)))
noncomputable def fm_unit_b2  (q : Int32 × mS) : Option ((Int32 × mS) ⊕ mS) :=
  if q.1 = 0 then (
    some (.inr q.2))
  else (
    if (q.2.1 2) = 0 then (
      (fm_isWord q.2 7237492).bind fun p17 =>
      if p17 = 0 then (
        fm_unit_j53 q.2 q.1)
      else (
        (fm_mayNot q.2).bind fun p24 =>
        if p24 = 0 then (
          fm_unit_j53 q.2 q.1)
        else (
          if (q.2.1 23) ≤ 6 then (
            (fm_openUp q.2 21).bind fun p47 =>
            some (.inl (q.1, p47)))
          else (
            (fm_wrong q.2 2).bind fun p41 =>
            (fm_openUp p41 21).bind fun p47 =>
            some (.inl (q.1, p47))))))
    else (
      some (.inr q.2)))
noncomputable def fm_unit_j160 (s : mS) (v2 : Int32) (t1 : Int32) : Option (mS) :=
  if 0 ≤ v2 then (
    (fm_add s t1 v2).bind fun p172 =>
    (fm_token p172).bind fun p176 =>
    some p176)
  else (
    (fm_add s t1 (s.1 8)).bind fun p172 =>
    (fm_token p172).bind fun p176 =>
    some p176)
noncomputable def fm_unit_j138 (s : mS) (v2 : Int32) : Option (mS) :=
  if (s.1 2) ≤ 0 then (
    (fm_countUnit s).bind fun p147 =>
    if 0 ≤ v2 then (
      fm_unit_j160 p147 v2 1)
    else (
      fm_unit_j160 p147 v2 0))
  else (
    some s)
noncomputable def fm_unit_j133 (s : mS) (v2 : Int32) : Option (mS) :=
  (fm_wrong s 2).bind fun p135 =>
  fm_unit_j138 p135 v2
noncomputable def fm_unit_j101 (s : mS) : Option (mS) :=
  if (s.1 2) ≤ 0 then (
    (fm_asked s).bind fun p110 =>
    if (s.1 6) = 2 then (
      (fm_isFull s).bind fun p127 =>
      if p127 = 0 then (
        fm_unit_j138 s p110)
      else (
        fm_unit_j133 s p110))
    else (
      if p110 < 0 then (
        fm_unit_j133 s p110)
      else (
        (fm_isFull s).bind fun p127 =>
        if p127 = 0 then (
          fm_unit_j138 s p110)
        else (
          fm_unit_j133 s p110))))
  else (
    some s)
noncomputable def fm_unit (s : mS) : Option (mS) :=
  (lp fm_unit_b2 (1, s)).bind fun q2 =>
  fm_unit_j101 q2
noncomputable def fm_sign (s : mS) : Option (Int32) :=
  (fm_isWord s 6385252).bind fun p4 =>
  if p4 = 0 then (
    (fm_isWord s 28530).bind fun p17 =>
    if p17 = 0 then (
      if (s.1 6) = 60 then (
        some (s.1 6))
      else (
        if (s.1 6) = 62 then (
          some (s.1 6))
        else (
          if (s.1 6) = 61 then (
            some (s.1 6))
          else (
            if (s.1 6) = 43 then (
              some (s.1 6))
            else (
              if (s.1 6) = 45 then (
                some (s.1 6))
              else (
                if (s.1 6) = 42 then (
                  some (s.1 6))
                else (
                  if (s.1 6) = 47 then (
                    some (s.1 6))
                  else (
                    if (s.1 6) = 37 then (
                      some (s.1 6))
                    else (
                      some 0)))))))))
    else (
      some 124))
  else (
    some 38)
noncomputable def fm_hasBracket_b4 (s : mS) (q : Int32 × Int32) : Option ((Int32 × Int32) ⊕ Int32) :=
  if (s.1 19) ≤ q.2 then (
    some (.inr q.1))
  else (
    if q.1 = 0 then (
      (ld 7 160 s q.2).bind fun x21 =>
      if x21 = 20 then (
        some (.inl (1, (q.2 + 1))))
      else (
        some (.inl (0, (q.2 + 1)))))
    else (
      some (.inl (1, (q.2 + 1)))))
noncomputable def fm_hasBracket (s : mS) : Option (Int32) :=
  (lp (fm_hasBracket_b4 s) (0, 0)).bind fun q4 =>
  if q4 = 0 ∨ q4 = 1 then some q4 else none
noncomputable def fm_close_b0 (v1 : Int32) (q : mS) : Option (mS ⊕ mS) :=
  if (q.1 19) ≤ 0 then (
    some (.inr q))
  else (
    (ld 7 160 q ((q.1 19) - 1)).bind fun x17 =>
    if x17 = 20 then (
      some (.inr q))
    else (
      (ld 7 160 q ((q.1 19) - 1)).bind fun x33 =>
      (fm_tight x33).bind fun p34 =>
      if p34 < v1 then (
        some (.inr q))
      else (
        (pI 19 q ((q.1 19) - 1)).bind fun s48 =>
        (ld 7 160 s48 (s48.1 19)).bind fun x59 =>
        if x59 = 21 then (
          (fm_add s48 2 0).bind fun p68 =>
          (pI 23 p68 ((p68.1 23) - 1)).bind fun s78 =>
          some (.inl s78))
        else (
          (ld 7 160 s48 (s48.1 19)).bind fun x94 =>
          (fm_add s48 3 x94).bind fun p95 =>
          some (.inl p95)))))
noncomputable def fm_close (s : mS) (v1 : Int32) : Option (mS) :=
  (lp (fm_close_b0 v1) s).bind fun q0 =>
  some q0
noncomputable def fm_hasRelation_b7 (s : mS) (q : Int32) : Option (Int32 ⊕ Int32) :=
  if q < 0 then (
    some (.inr q))
  else (
    (ld 7 160 s q).bind fun x16 =>
    if x16 = 20 then (
      some (.inr q))
    else (
      (ld 7 160 s q).bind fun x27 =>
      (fm_tight x27).bind fun p28 =>
      if p28 ≤ 4 then (
        some (.inr q))
      else (
        some (.inl (q + (-1))))))
noncomputable def fm_hasRelation_j41 (s : mS) (v1 : Int32) : Option (Int32) :=
  if v1 < 0 then (
    some 0)
  else (
    (ld 7 160 s v1).bind fun x50 =>
    if x50 = 20 then (
      some 0)
    else (
      (ld 7 160 s v1).bind fun x61 =>
      (fm_tight x61).bind fun p62 =>
      if p62 = 4 then (
        some 1)
      else (
        some 0)))
noncomputable def fm_hasRelation (s : mS) : Option (Int32) :=
  (lp (fm_hasRelation_b7 s) ((s.1 19) - 1)).bind fun q7 =>
  fm_hasRelation_j41 s q7
noncomputable def fm_formula_j118 (s : mS) (v1 : Int32) (v2 : Int32) : Option ((Int32 × mS) ⊕ mS) :=
  (fm_tight v2).bind fun p120 =>
  (fm_close s p120).bind fun p123 =>
  (sto 7 160 p123 (p123.1 19) v2).bind fun s135 =>
  (pI 19 s135 ((s135.1 19) + 1)).bind fun s143 =>
  (fm_token s143).bind fun p147 =>
  (fm_unit p147).bind fun p151 =>
  some (.inl (v1, p151))
noncomputable def fm_formula_j99 (s : mS) (v1 : Int32) (v2 : Int32) : Option ((Int32 × mS) ⊕ mS) :=
  if v2 = 0 then (
    some (.inl (0, s)))
  else (
    (fm_tight v2).bind fun p104 =>
    if p104 = 4 then (
      (fm_hasRelation s).bind fun p112 =>
      if p112 = 0 then (
        fm_formula_j118 s v1 v2)
      else (
        some (.inl (0, s))))
    else (
      fm_formula_j118 s v1 v2))
noncomputable def fm_formula_b35  (q : Int32 × mS) : Option ((Int32 × mS) ⊕ mS) :=
  if q.1 = 0 then (
    some (.inr q.2))
  else (
    if (q.2.1 2) = 0 then (
      (fm_sign q.2).bind fun p47 =>
      if (q.2.1 6) = 41 then (
        (fm_hasBracket q.2).bind fun p61 =>
        if p61 = 0 then (
          fm_formula_j99 q.2 q.1 p47)
        else (
          (fm_close q.2 0).bind fun p69 =>
          (pI 19 p69 ((p69.1 19) - 1)).bind fun s79 =>
          (pI 23 s79 ((s79.1 23) - 1)).bind fun s89 =>
          (fm_token s89).bind fun p93 =>
          some (.inl (q.1, p93))))
      else (
        fm_formula_j99 q.2 q.1 p47))
    else (
      some (.inr q.2)))
noncomputable def fm_formula_j181 (s : mS) : Option (mS) :=
  if (s.1 2) = 0 then (
    (fm_close s 0).bind fun p190 =>
    some p190)
  else (
    some s)
noncomputable def fm_formula_j162 (s : mS) : Option (mS) :=
  if (s.1 2) = 0 then (
    (fm_hasBracket s).bind fun p170 =>
    if p170 = 0 then (
      fm_formula_j181 s)
    else (
      (fm_wrong s 2).bind fun p178 =>
      fm_formula_j181 p178))
  else (
    fm_formula_j181 s)
noncomputable def fm_formula (s : mS) : Option (mS) :=
  (fm_token s).bind fun p1 =>
  (pI 24 p1 1).bind fun s6 =>
  (pI 17 s6 0).bind fun s11 =>
  (pI 19 s11 0).bind fun s16 =>
  (pI 23 s16 0).bind fun s21 =>
  (pI 22 s21 0).bind fun s26 =>
  (fm_unit s26).bind fun p30 =>
  (lp fm_formula_b35 (1, p30)).bind fun q35 =>
  fm_formula_j162 q35
noncomputable def fm_readLine_j235 (s : mS) : Option (mS) :=
  (pI 51 s 1).bind fun s237 =>
  if (s237.1 2) = 0 then (
    if (s237.1 6) = 59 then (
      if (s237.1 2) = 0 then (
        (fm_token s237).bind fun p269 =>
        some p269)
      else (
        some s237))
    else (
      (fm_wrong s237 2).bind fun p258 =>
      if (p258.1 2) = 0 then (
        (fm_token p258).bind fun p269 =>
        some p269)
      else (
        some p258)))
  else (
    if (s237.1 2) = 0 then (
      (fm_token s237).bind fun p269 =>
      some p269)
    else (
      some s237))
noncomputable def fm_readLine_j230 (s : mS) : Option (mS) :=
  (fm_wrong s 2).bind fun p232 =>
  fm_readLine_j235 p232
noncomputable def fm_readLine_j190 (s : mS) : Option (mS) :=
  (fm_isWord s 1685217655).bind fun p194 =>
  if p194 = 0 then (
    fm_readLine_j230 s)
  else (
    if (s.1 53) = 0 then (
      (pI 53 s 1).bind fun s209 =>
      (fm_told s209 1685217655 0 999).bind fun p221 =>
      (pI 45 p221.2 p221.1).bind fun s224 =>
      fm_readLine_j235 s224)
    else (
      fm_readLine_j230 s))
noncomputable def fm_readLine_j151 (s : mS) : Option (mS) :=
  (fm_isWord s 439905906532).bind fun p155 =>
  if p155 = 0 then (
    fm_readLine_j190 s)
  else (
    if (s.1 52) = 0 then (
      (pI 52 s 1).bind fun s170 =>
      (fm_told s170 439905906532 0 100).bind fun p181 =>
      (pI 44 p181.2 p181.1).bind fun s184 =>
      fm_readLine_j235 s184)
    else (
      fm_readLine_j190 s))
noncomputable def fm_readLine_j127 (s : mS) : Option (mS) :=
  (fm_isWord s 1751474548).bind fun p131 =>
  if p131 = 0 then (
    fm_readLine_j151 s)
  else (
    if (s.1 24) = 0 then (
      (fm_formula s).bind fun p145 =>
      fm_readLine_j235 p145)
    else (
      fm_readLine_j151 s))
noncomputable def fm_readLine_j101 (s : mS) : Option (mS) :=
  (fm_isWord s 1819238756).bind fun p105 =>
  if p105 = 0 then (
    fm_readLine_j127 s)
  else (
    if 7 ≤ (s.1 43) then (
      fm_readLine_j127 s)
    else (
      (fm_readLoad s).bind fun p121 =>
      fm_readLine_j235 p121))
noncomputable def fm_readLine_j76 (s : mS) : Option (mS) :=
  (fm_isWord s 422775452260).bind fun p80 =>
  if p80 = 0 then (
    fm_readLine_j101 s)
  else (
    if 4 ≤ (s.1 42) then (
      fm_readLine_j101 s)
    else (
      (fm_readBoard s).bind fun p95 =>
      fm_readLine_j235 p95))
noncomputable def fm_readLine_j50 (s : mS) : Option (mS) :=
  (fm_isWord s 1769107310).bind fun p54 =>
  if p54 = 0 then (
    fm_readLine_j76 s)
  else (
    if 6 ≤ (s.1 41) then (
      fm_readLine_j76 s)
    else (
      (fm_readIron s).bind fun p70 =>
      fm_readLine_j235 p70))
noncomputable def fm_readLine_j24 (s : mS) : Option (mS) :=
  (fm_isWord s 27995157100326516).bind fun p28 =>
  if p28 = 0 then (
    fm_readLine_j50 s)
  else (
    if 16 ≤ (s.1 40) then (
      fm_readLine_j50 s)
    else (
      (fm_readCurrent s).bind fun p44 =>
      fm_readLine_j235 p44))
noncomputable def fm_readLine (s : mS) : Option (mS) :=
  (fm_isWord s 512736126322).bind fun p4 =>
  if p4 = 0 then (
    fm_readLine_j24 s)
  else (
    if (s.1 51) = 0 then (
      (fm_readWater s).bind fun p18 =>
      fm_readLine_j235 p18)
    else (
      fm_readLine_j24 s))
noncomputable def fm_readAll_b97  (q : Int32 × mS) : Option ((Int32 × mS) ⊕ mS) :=
  if 56 ≤ q.1 then (
    some (.inr q.2))
  else (
    (sto 10 56 q.2 q.1 (-1)).bind fun s109 =>
    (sto 11 56 s109 q.1 (-1)).bind fun s116 =>
    some (.inl ((q.1 + 1), s116)))
noncomputable def fm_readAll_b127  (q : mS) : Option (mS ⊕ mS) :=
  if (q.1 2) = 0 then (
    if (q.1 6) = 0 then (
      some (.inr q))
    else (
      (fm_readLine q).bind fun p142 =>
      some (.inl p142)))
  else (
    some (.inr q))
noncomputable def fm_readAll (s : mS) : Option (mS) :=
  (pI 5 s (s.1 1)).bind fun s5 =>
  (pI 1 s5 0).bind fun s10 =>
  (pI 4 s10 0).bind fun s15 =>
  (pI 2 s15 0).bind fun s20 =>
  (pI 3 s20 (-1)).bind fun s25 =>
  (pI 38 s25 8).bind fun s31 =>
  (pI 39 s31 6).bind fun s37 =>
  (pI 40 s37 0).bind fun s42 =>
  (pI 41 s42 0).bind fun s47 =>
  (pI 42 s47 0).bind fun s52 =>
  (pI 43 s52 0).bind fun s57 =>
  (pI 44 s57 0).bind fun s62 =>
  (pI 45 s62 0).bind fun s67 =>
  (pI 51 s67 0).bind fun s72 =>
  (pI 52 s72 0).bind fun s77 =>
  (pI 53 s77 0).bind fun s82 =>
  (pI 24 s82 0).bind fun s87 =>
  (pI 20 s87 0).bind fun s92 =>
  (lp fm_readAll_b97 (0, s92)).bind fun q97 =>
  (fm_token q97).bind fun p124 =>
  (lp fm_readAll_b127 p124).bind fun q127 =>
  some q127
noncomputable def fm_river_b82  (q : Int32 × mS) : Option ((Int32 × mS) ⊕ mS) :=
  if (q.2.1 18) ≤ q.1 then (
    some (.inr q.2))
  else (
    (ld 3 320 q.2 q.1).bind fun x100 =>
    (sto 5 320 q.2 q.1 x100).bind fun s101 =>
    (ld 4 320 s101 q.1).bind fun x112 =>
    (sto 6 320 s101 q.1 x112).bind fun s113 =>
    some (.inl ((q.1 + 1), s113)))
noncomputable def fm_river_j152 (s : mS) (v1 : Int32) (t1 : Int32) (t2 : Int32) : Option ((Int32 × mS) ⊕ mS) :=
  (sto 16 56 s t1 t2).bind fun s152 =>
  (ld 11 56 s152 v1).bind fun x163 =>
  if 0 ≤ x163 then (
    (sto 17 56 s152 v1 1).bind fun s172 =>
    some (.inl ((v1 + 1), s172)))
  else (
    (sto 17 56 s152 v1 0).bind fun s172 =>
    some (.inl ((v1 + 1), s172)))
noncomputable def fm_river_b122  (q : Int32 × mS) : Option ((Int32 × mS) ⊕ mS) :=
  if 56 ≤ q.1 then (
    some (.inr q.2))
  else (
    (ld 10 56 q.2 q.1).bind fun x138 =>
    if 0 ≤ x138 then (
      (ld 10 56 q.2 q.1).bind fun x151 =>
      fm_river_j152 q.2 q.1 q.1 x151)
    else (
      fm_river_j152 q.2 q.1 q.1 0))
noncomputable def fm_river_b181  (q : Int32 × mS) : Option ((Int32 × mS) ⊕ mS) :=
  if 28 ≤ q.1 then (
    some (.inr q.2))
  else (
    (sto 22 28 q.2 q.1 0).bind fun s193 =>
    some (.inl ((q.1 + 1), s193)))
noncomputable def fm_river_b202  (q : Int32 × mS) : Option ((Int32 × mS) ⊕ mS) :=
  if (q.2.1 48) ≤ q.1 then (
    some (.inr q.2))
  else (
    (ld 12 4 q.2 q.1).bind fun x220 =>
    (sto 18 4 q.2 q.1 x220).bind fun s221 =>
    (ld 13 4 s221 q.1).bind fun x232 =>
    (sto 19 4 s221 q.1 x232).bind fun s233 =>
    (ld 14 4 s233 q.1).bind fun x244 =>
    (sto 20 4 s233 q.1 x244).bind fun s245 =>
    (ld 19 4 s245 q.1).bind fun x256 =>
    (sto 22 28 s245 q.1 x256).bind fun s257 =>
    some (.inl ((q.1 + 1), s257)))
noncomputable def fm_river_b266  (q : Int32 × mS) : Option ((Int32 × mS) ⊕ mS) :=
  if (q.2.1 49) ≤ q.1 then (
    some (.inr q.2))
  else (
    (ld 15 7 q.2 q.1).bind fun x284 =>
    (sto 21 7 q.2 q.1 x284).bind fun s285 =>
    (sto 22 28 s285 (20 + q.1) (-1)).bind fun s295 =>
    some (.inl ((q.1 + 1), s295)))
noncomputable def fm_river_b335  (q : Int32 × mS) : Option ((Int32 × mS) ⊕ mS) :=
  if 3 ≤ q.1 then (
    some (.inr q.2))
  else (
    (stb 43 3 q.2 q.1 0).bind fun s346 =>
    some (.inl ((q.1 + 1), s346)))
noncomputable def fm_river_j77 (s : mS) (t1 : Int32) : Option (Int32 × mS) :=
  (pI 18 s t1).bind fun s77 =>
  (lp fm_river_b82 (0, s77)).bind fun q82 =>
  (lp fm_river_b122 (0, q82)).bind fun q122 =>
  (lp fm_river_b181 (0, q122)).bind fun q181 =>
  (lp fm_river_b202 (0, q181)).bind fun q202 =>
  (lp fm_river_b266 (0, q202)).bind fun q266 =>
  (sto 22 28 q266 27 (q266.1 45)).bind fun s312 =>
  (pI 57 s312 0).bind fun s315 =>
  (pI 58 s315 0).bind fun s320 =>
  (pI 75 s320 0).bind fun s325 =>
  (pI 61 s325 0).bind fun s330 =>
  (lp fm_river_b335 (0, s330)).bind fun q335 =>
  some ((q335.1 48), q335)
noncomputable def fm_river (s : mS) : Option (Int32 × mS) :=
  (fm_readAll s).bind fun p1 =>
  if (p1.1 2) ≤ 0 then (
    (pI 46 p1 (p1.1 38)).bind fun s18 =>
    (pI 47 s18 (s18.1 39)).bind fun s26 =>
    (pI 48 s26 (s26.1 42)).bind fun s34 =>
    (pI 49 s34 (s34.1 43)).bind fun s42 =>
    (pI 50 s42 (s42.1 44)).bind fun s50 =>
    (pI 21 s50 (s50.1 20)).bind fun s58 =>
    if (s58.1 24) = 0 then (
      fm_river_j77 s58 0)
    else (
      fm_river_j77 s58 (s58.1 17)))
  else (
    some ((-1), p1))
noncomputable def fm_fault (s : mS) (v1 : Int32) : Option (Int32) :=
  if v1 = 0 then (
    some (s.1 2))
  else (
    if v1 = 1 then (
      some (s.1 3))
    else (
      some (-1)))
noncomputable def fm_isIn (v0 : Int32) (v1 : Int32) (v2 : Int32) : Option (Int32) :=
  if v0 < v1 then (
    some 0)
  else (
    if v2 < v0 then (
      some 0)
    else (
      some 1))
noncomputable def fm_isBoard (s : mS) (v1 : Int32) : Option (Int32) :=
  (fm_isIn v1 0 ((s.1 48) - 1)).bind fun p8 =>
  if p8 = 0 ∨ p8 = 1 then some p8 else none
noncomputable def fm_fill_b2  (q : Int32 × mS) : Option ((Int32 × mS) ⊕ mS) :=
  if 28 ≤ q.1 then (
    some (.inr q.2))
  else (
    (ld 22 28 q.2 q.1).bind fun x18 =>
    (sto 23 28 q.2 q.1 x18).bind fun s19 =>
    some (.inl ((q.1 + 1), s19)))
noncomputable def fm_fill (s : mS) : Option (mS) :=
  (lp fm_fill_b2 (0, s)).bind fun q2 =>
  some q2
noncomputable def fm_burdenOf_b4 (s : mS) (v1 : Int32) (q : Int32 × Int32) : Option ((Int32 × Int32) ⊕ Int32) :=
  if (s.1 49) ≤ q.2 then (
    some (.inr q.1))
  else (
    (ld 23 28 s (20 + q.2)).bind fun x21 =>
    if x21 = v1 then (
      (ld 21 7 s q.2).bind fun x31 =>
      some (.inl ((q.1 + x31), (q.2 + 1))))
    else (
      some (.inl ((q.1 + 0), (q.2 + 1)))))
noncomputable def fm_burdenOf (s : mS) (v1 : Int32) : Option (Int32) :=
  (lp (fm_burdenOf_b4 s v1) (0, 0)).bind fun q4 =>
  some q4
noncomputable def fm_truth (v0 : Int32) : Option (Int32) :=
  if v0 = 0 then (
    some 0)
  else (
    some 1)
noncomputable def fm_loadsAt_j31 (s : mS) (v1 : Int32) (v3 : Int32) (t0 : Int32) (t1 : Int32) : Option ((Int32 × Int32) ⊕ Int32) :=
  (fm_truth t1).bind fun p31 =>
  some (.inl ((t0 ||| (p31 <<< (v3 &&& 31))), (v3 + 1)))
noncomputable def fm_loadsAt_b4 (s : mS) (v1 : Int32) (q : Int32 × Int32) : Option ((Int32 × Int32) ⊕ Int32) :=
  if (s.1 49) ≤ q.2 then (
    some (.inr q.1))
  else (
    (ld 23 28 s (20 + q.2)).bind fun x21 =>
    if x21 = v1 then (
      fm_loadsAt_j31 s v1 q.2 q.1 1)
    else (
      fm_loadsAt_j31 s v1 q.2 q.1 0))
noncomputable def fm_loadsAt (s : mS) (v1 : Int32) : Option (Int32) :=
  (lp (fm_loadsAt_b4 s v1) (0, 0)).bind fun q4 =>
  some q4
noncomputable def fm_board (s : mS) (v1 : Int32) (v2 : Int32) : Option (Int32 × mS) :=
  (fm_isBoard s v1).bind fun p2 =>
  if p2 = 0 then (
    some ((-1), s))
  else (
    (fm_fill s).bind fun p11 =>
    if v2 = 0 then (
      (ld 23 28 p11 v1).bind fun x69 =>
      some (x69, p11))
    else if v2 = 1 then (
      (ld 23 28 p11 (4 + v1)).bind fun x78 =>
      some (x78, p11))
    else if v2 = 2 then (
      (ld 23 28 p11 (8 + v1)).bind fun x88 =>
      some (x88, p11))
    else if v2 = 3 then (
      (ld 23 28 p11 (12 + v1)).bind fun x98 =>
      some (x98, p11))
    else if v2 = 4 then (
      (ld 23 28 p11 (16 + v1)).bind fun x108 =>
      some (x108, p11))
    else if v2 = 5 then (
      (ld 18 4 p11 v1).bind fun x115 =>
      some (x115, p11))
    else if v2 = 6 then (
      (ld 20 4 p11 v1).bind fun x122 =>
      some (x122, p11))
    else if v2 = 7 then (
      (fm_burdenOf p11 v1).bind fun p126 =>
      some (p126, p11))
    else if v2 = 8 then (
      (fm_loadsAt p11 v1).bind fun p132 =>
      some (p132, p11))
    else (
      some ((-1), p11)))
noncomputable def fm_isLoad (s : mS) (v1 : Int32) : Option (Int32) :=
  (fm_isIn v1 0 ((s.1 49) - 1)).bind fun p8 =>
  if p8 = 0 ∨ p8 = 1 then some p8 else none
noncomputable def fm_load (s : mS) (v1 : Int32) (v2 : Int32) : Option (Int32) :=
  (fm_isLoad s v1).bind fun p2 =>
  if p2 = 0 then (
    some (-3))
  else (
    (fm_isIn v2 0 1).bind fun p11 =>
    if p11 = 0 then (
      some (-3))
    else (
      if v2 = 0 then (
        (ld 21 7 s v1).bind fun x31 =>
        some x31)
      else (
        (ld 22 28 s (20 + v1)).bind fun x43 =>
        some x43)))
noncomputable def fm_currentAt (s : mS) (v1 : Int32) (v2 : Int32) : Option (Int32) :=
  (ld 16 56 s ((8 * v2) + v1)).bind fun x10 =>
  some x10
noncomputable def fm_isIron (s : mS) (v1 : Int32) (v2 : Int32) : Option (Int32) :=
  (ld 17 56 s ((8 * v2) + v1)).bind fun x10 =>
  if x10 = 1 then (
    some 1)
  else (
    some 0)
noncomputable def fm_spot (s : mS) (v1 : Int32) (v2 : Int32) (v3 : Int32) : Option (Int32) :=
  (fm_isIn v1 0 ((s.1 46) - 1)).bind fun p8 =>
  if p8 = 0 then (
    some (-1))
  else (
    (fm_isIn v2 0 (s.1 47)).bind fun p20 =>
    if p20 = 0 then (
      some (-1))
    else (
      (fm_isIn v3 0 1).bind fun p29 =>
      if p29 = 0 then (
        some (-1))
      else (
        if v3 = 0 then (
          (fm_currentAt s v1 v2).bind fun p44 =>
          some p44)
        else (
          (fm_isIron s v1 v2).bind fun p53 =>
          (fm_truth p53).bind fun p56 =>
          some p56))))
noncomputable def fm_done (v0 : Int32) (v1 : Int32) (v2 : Int32) : Option (Int32) :=
  if v0 = 37 then (
    if v2 = 0 then (
      some 0)
    else (
      (rm v1 v2).bind fun x154 =>
      some x154))
  else if v0 = 38 then (
    if v1 = 0 then (
      (fm_truth 0).bind fun p211 =>
      some p211)
    else (
      if v2 = 0 then (
        (fm_truth 0).bind fun p211 =>
        some p211)
      else (
        (fm_truth 1).bind fun p211 =>
        some p211)))
  else if v0 = 39 then (
    if v1 = 0 then (
      if v2 = 0 then (
        (fm_truth 0).bind fun p228 =>
        some p228)
      else (
        (fm_truth 1).bind fun p228 =>
        some p228))
    else (
      (fm_truth 1).bind fun p228 =>
      some p228))
  else if v0 = 40 then (
    if v1 = 0 then (
      if v2 = 0 then (
        (fm_truth 0).bind fun p228 =>
        some p228)
      else (
        (fm_truth 1).bind fun p228 =>
        some p228))
    else (
      (fm_truth 1).bind fun p228 =>
      some p228))
  else if v0 = 41 then (
    if v1 = 0 then (
      if v2 = 0 then (
        (fm_truth 0).bind fun p228 =>
        some p228)
      else (
        (fm_truth 1).bind fun p228 =>
        some p228))
    else (
      (fm_truth 1).bind fun p228 =>
      some p228))
  else if v0 = 42 then (
    some (v1 * v2))
  else if v0 = 43 then (
    some (v1 + v2))
  else if v0 = 44 then (
    if v1 = 0 then (
      if v2 = 0 then (
        (fm_truth 0).bind fun p228 =>
        some p228)
      else (
        (fm_truth 1).bind fun p228 =>
        some p228))
    else (
      (fm_truth 1).bind fun p228 =>
      some p228))
  else if v0 = 45 then (
    some (v1 - v2))
  else if v0 = 46 then (
    if v1 = 0 then (
      if v2 = 0 then (
        (fm_truth 0).bind fun p228 =>
        some p228)
      else (
        (fm_truth 1).bind fun p228 =>
        some p228))
    else (
      (fm_truth 1).bind fun p228 =>
      some p228))
  else if v0 = 47 then (
    if v2 = 0 then (
      some 0)
    else (
      (dv v1 v2).bind fun x142 =>
      some x142))
  else if v0 = 48 then (
    if v1 = 0 then (
      if v2 = 0 then (
        (fm_truth 0).bind fun p228 =>
        some p228)
      else (
        (fm_truth 1).bind fun p228 =>
        some p228))
    else (
      (fm_truth 1).bind fun p228 =>
      some p228))
  else if v0 = 49 then (
    if v1 = 0 then (
      if v2 = 0 then (
        (fm_truth 0).bind fun p228 =>
        some p228)
      else (
        (fm_truth 1).bind fun p228 =>
        some p228))
    else (
      (fm_truth 1).bind fun p228 =>
      some p228))
  else if v0 = 50 then (
    if v1 = 0 then (
      if v2 = 0 then (
        (fm_truth 0).bind fun p228 =>
        some p228)
      else (
        (fm_truth 1).bind fun p228 =>
        some p228))
    else (
      (fm_truth 1).bind fun p228 =>
      some p228))
  else if v0 = 51 then (
    if v1 = 0 then (
      if v2 = 0 then (
        (fm_truth 0).bind fun p228 =>
        some p228)
      else (
        (fm_truth 1).bind fun p228 =>
        some p228))
    else (
      (fm_truth 1).bind fun p228 =>
      some p228))
  else if v0 = 52 then (
    if v1 = 0 then (
      if v2 = 0 then (
        (fm_truth 0).bind fun p228 =>
        some p228)
      else (
        (fm_truth 1).bind fun p228 =>
        some p228))
    else (
      (fm_truth 1).bind fun p228 =>
      some p228))
  else if v0 = 53 then (
    if v1 = 0 then (
      if v2 = 0 then (
        (fm_truth 0).bind fun p228 =>
        some p228)
      else (
        (fm_truth 1).bind fun p228 =>
        some p228))
    else (
      (fm_truth 1).bind fun p228 =>
      some p228))
  else if v0 = 54 then (
    if v1 = 0 then (
      if v2 = 0 then (
        (fm_truth 0).bind fun p228 =>
        some p228)
      else (
        (fm_truth 1).bind fun p228 =>
        some p228))
    else (
      (fm_truth 1).bind fun p228 =>
      some p228))
  else if v0 = 55 then (
    if v1 = 0 then (
      if v2 = 0 then (
        (fm_truth 0).bind fun p228 =>
        some p228)
      else (
        (fm_truth 1).bind fun p228 =>
        some p228))
    else (
      (fm_truth 1).bind fun p228 =>
      some p228))
  else if v0 = 56 then (
    if v1 = 0 then (
      if v2 = 0 then (
        (fm_truth 0).bind fun p228 =>
        some p228)
      else (
        (fm_truth 1).bind fun p228 =>
        some p228))
    else (
      (fm_truth 1).bind fun p228 =>
      some p228))
  else if v0 = 57 then (
    if v1 = 0 then (
      if v2 = 0 then (
        (fm_truth 0).bind fun p228 =>
        some p228)
      else (
        (fm_truth 1).bind fun p228 =>
        some p228))
    else (
      (fm_truth 1).bind fun p228 =>
      some p228))
  else if v0 = 58 then (
    if v1 = 0 then (
      if v2 = 0 then (
        (fm_truth 0).bind fun p228 =>
        some p228)
      else (
        (fm_truth 1).bind fun p228 =>
        some p228))
    else (
      (fm_truth 1).bind fun p228 =>
      some p228))
  else if v0 = 59 then (
    if v1 = 0 then (
      if v2 = 0 then (
        (fm_truth 0).bind fun p228 =>
        some p228)
      else (
        (fm_truth 1).bind fun p228 =>
        some p228))
    else (
      (fm_truth 1).bind fun p228 =>
      some p228))
  else if v0 = 60 then (
    if v2 ≤ v1 then (
      (fm_truth 0).bind fun p166 =>
      some p166)
    else (
      (fm_truth 1).bind fun p166 =>
      some p166))
  else if v0 = 61 then (
    if v1 = v2 then (
      (fm_truth 1).bind fun p194 =>
      some p194)
    else (
      (fm_truth 0).bind fun p194 =>
      some p194))
  else if v0 = 62 then (
    if v1 ≤ v2 then (
      (fm_truth 0).bind fun p180 =>
      some p180)
    else (
      (fm_truth 1).bind fun p180 =>
      some p180))
  else (
    if v1 = 0 then (
      if v2 = 0 then (
        (fm_truth 0).bind fun p228 =>
        some p228)
      else (
        (fm_truth 1).bind fun p228 =>
        some p228))
    else (
      (fm_truth 1).bind fun p228 =>
      some p228))
noncomputable def fm_within (v0 : Int32) (v1 : Int32) : Option (Int32) :=
  if 0 ≤ v0 then (
    if v0 ≤ v1 then (
      some v0)
    else (
      some v1))
  else (
    some 0)
noncomputable def fm_hotterOf_j117 (s : mS) (v2 : Int32) (v3 : Int32) : Option ((Int32 × Int32 × mS) ⊕ mS) :=
  (ld 5 320 s v3).bind fun x127 =>
  if x127 = 0 then (
    (ld 6 320 s v3).bind fun x136 =>
    (sto 8 64 s v2 x136).bind fun s151 =>
    some (.inl ((v2 + 1), (v3 + 1), s151)))
  else (
    (ld 6 320 s v3).bind fun x149 =>
    (ld 9 6 s x149).bind fun x150 =>
    (sto 8 64 s v2 x150).bind fun s151 =>
    some (.inl ((v2 + 1), (v3 + 1), s151)))
noncomputable def fm_hotterOf_b90  (q : Int32 × Int32 × mS) : Option ((Int32 × Int32 × mS) ⊕ mS) :=
  if (q.2.2.1 18) ≤ q.2.1 then (
    some (.inr q.2.2))
  else (
    (ld 5 320 q.2.2 q.2.1).bind fun x103 =>
    if x103 = 0 then (
      fm_hotterOf_j117 q.2.2 q.1 q.2.1)
    else (
      (ld 5 320 q.2.2 q.2.1).bind fun x112 =>
      if x112 = 1 then (
        fm_hotterOf_j117 q.2.2 q.1 q.2.1)
      else (
        (ld 5 320 q.2.2 q.2.1).bind fun x163 =>
        if x163 = 2 then (
          (ld 8 64 q.2.2 (q.1 - 1)).bind fun x182 =>
          if x182 = 0 then (
            (fm_truth 1).bind fun p191 =>
            (sto 8 64 q.2.2 (q.1 - 1) p191).bind fun s194 =>
            some (.inl (q.1, (q.2.1 + 1), s194)))
          else (
            (fm_truth 0).bind fun p191 =>
            (sto 8 64 q.2.2 (q.1 - 1) p191).bind fun s194 =>
            some (.inl (q.1, (q.2.1 + 1), s194))))
        else (
          (ld 6 320 q.2.2 q.2.1).bind fun x213 =>
          (ld 8 64 q.2.2 ((q.1 + (-1)) - 1)).bind fun x221 =>
          (ld 8 64 q.2.2 (q.1 + (-1))).bind fun x227 =>
          (fm_done x213 x221 x227).bind fun p228 =>
          (sto 8 64 q.2.2 ((q.1 + (-1)) - 1) p228).bind fun s231 =>
          some (.inl ((q.1 + (-1)), (q.2.1 + 1), s231))))))
noncomputable def fm_hotterOf (s : mS) (v1 : Int32) : Option (Int32 × mS) :=
  (ld 23 28 s (4 + v1)).bind fun x12 =>
  (sto 9 6 s 0 x12).bind fun s13 =>
  (ld 23 28 s13 v1).bind fun x24 =>
  (sto 9 6 s13 1 x24).bind fun s25 =>
  (fm_burdenOf s25 v1).bind fun p33 =>
  (sto 9 6 s25 2 p33).bind fun s36 =>
  (ld 18 4 s36 v1).bind fun x47 =>
  (sto 9 6 s36 3 x47).bind fun s48 =>
  (ld 23 28 s48 (16 + v1)).bind fun x62 =>
  (sto 9 6 s48 4 x62).bind fun s63 =>
  (ld 23 28 s63 (8 + v1)).bind fun x77 =>
  (sto 9 6 s63 5 x77).bind fun s78 =>
  (sto 8 64 s78 0 1).bind fun s87 =>
  (lp fm_hotterOf_b90 (0, 0, s87)).bind fun q90 =>
  (ld 8 64 q90 0).bind fun x243 =>
  (fm_within x243 99).bind fun p246 =>
  some (p246, q90)
noncomputable def fm_hotter (s : mS) (v1 : Int32) : Option (Int32 × mS) :=
  (fm_fill s).bind fun p1 =>
  (fm_isBoard p1 v1).bind fun p6 =>
  if p6 = 0 then (
    some ((-1), p1))
  else (
    (fm_hotterOf p1 v1).bind fun p14 =>
    some (p14.1, p14.2))
noncomputable def fm_act_b51  (q : Int32 × mS) : Option ((Int32 × mS) ⊕ mS) :=
  if 28 ≤ q.1 then (
    some (.inr q.2))
  else (
    (ld 22 28 q.2 q.1).bind fun x75 =>
    (sto 24 1120 q.2 ((28 * (q.2.1 57)) + q.1) x75).bind fun s76 =>
    some (.inl ((q.1 + 1), s76)))
noncomputable def fm_act_b11  (q : Int32 × mS) : Option ((Int32 × mS) ⊕ mS) :=
  if 1092 ≤ q.1 then (
    some (.inr q.2))
  else (
    (ld 24 1120 q.2 (28 + q.1)).bind fun x31 =>
    (sto 24 1120 q.2 q.1 x31).bind fun s32 =>
    some (.inl ((q.1 + 1), s32)))
noncomputable def fm_act (s : mS) : Option (mS) :=
  if (s.1 57) = 40 then (
    (lp fm_act_b11 (0, s)).bind fun q11 =>
    (pI 57 q11 ((q11.1 57) - 1)).bind fun s46 =>
    (lp fm_act_b51 (0, s46)).bind fun q51 =>
    (pI 57 q51 ((q51.1 57) + 1)).bind fun s90 =>
    (pI 58 s90 0).bind fun s95 =>
    (fm_fill s95).bind fun p99 =>
    some p99)
  else (
    (lp fm_act_b51 (0, s)).bind fun q51 =>
    (pI 57 q51 ((q51.1 57) + 1)).bind fun s90 =>
    (pI 58 s90 0).bind fun s95 =>
    (fm_fill s95).bind fun p99 =>
    some p99)
noncomputable def fm_columnBy (s : mS) (v1 : Int32) (v2 : Int32) (v3 : Int32) (v4 : Int32) : Option (Int32) :=
  (fm_currentAt s v1 v2).bind fun p8 =>
  (fm_within ((v1 + v3) + (v4 * p8)) ((s.1 46) - 1)).bind fun p19 =>
  some p19
noncomputable def fm_goStroke_j185 (s : mS) (v8 : Int32) (v9 : Int32) : Option (Int32 × mS) :=
  (fm_truth v8).bind fun p187 =>
  (fm_truth v9).bind fun p193 =>
  some ((p187 + (2 * p193)), s)
noncomputable def fm_goStroke_j151 (s : mS) (v1 : Int32) (v8 : Int32) (v9 : Int32) (t1 : Int32) (t2 : Int32) : Option (Int32 × mS) :=
  (sto 23 28 s t1 t2).bind fun s151 =>
  if v9 = 0 then (
    fm_goStroke_j185 s151 v8 v9)
  else (
    (ld 23 28 s151 (12 + v1)).bind fun x165 =>
    if 999 ≤ x165 then (
      fm_goStroke_j185 s151 v8 v9)
    else (
      (ld 23 28 s151 (12 + v1)).bind fun x181 =>
      (sto 23 28 s151 (12 + v1) (x181 + 1)).bind fun s184 =>
      fm_goStroke_j185 s184 v8 v9))
noncomputable def fm_goStroke_j130 (s : mS) (v1 : Int32) (v7 : Int32) (v8 : Int32) (t0 : Int32) : Option (Int32 × mS) :=
  if t0 = 0 then (
    fm_goStroke_j151 s v1 v8 t0 (8 + v1) v7)
  else (
    fm_goStroke_j151 s v1 v8 t0 (8 + v1) 0)
noncomputable def fm_goStroke_j112 (s : mS) (v1 : Int32) (v8 : Int32) (t0 : Int32) : Option (Int32 × mS) :=
  (ld 20 4 s v1).bind fun x121 =>
  if t0 ≤ x121 then (
    fm_goStroke_j130 s v1 t0 v8 0)
  else (
    fm_goStroke_j130 s v1 t0 v8 1)
noncomputable def fm_goStroke_j85 (s : mS) (v1 : Int32) (v7 : Int32) (v8 : Int32) : Option (Int32 × mS) :=
  (ld 23 28 s (16 + v1)).bind fun x94 =>
  (sto 23 28 s (16 + v1) (x94 + 1)).bind fun s97 =>
  if v7 ≤ 99 then (
    fm_goStroke_j112 s97 v1 v8 v7)
  else (
    fm_goStroke_j112 s97 v1 v8 99)
noncomputable def fm_goStroke (s : mS) (v1 : Int32) (v2 : Int32) (v3 : Int32) (v4 : Int32) : Option (Int32 × mS) :=
  (ld 23 28 s (4 + v1)).bind fun x7 =>
  (ld 23 28 s v1).bind fun x18 =>
  (ld 23 28 s (4 + v1)).bind fun x26 =>
  (fm_columnBy s x18 x26 v2 v4).bind fun p30 =>
  (ld 23 28 s (8 + v1)).bind fun x43 =>
  (fm_hotterOf s v1).bind fun p46 =>
  (fm_isIron p46.2 p30 (x7 + v3)).bind fun p57 =>
  if p57 = 0 then (
    (sto 23 28 p46.2 v1 p30).bind fun s74 =>
    (sto 23 28 s74 (4 + v1) (x7 + v3)).bind fun s84 =>
    fm_goStroke_j85 s84 v1 (x43 + p46.1) p57)
  else (
    fm_goStroke_j85 p46.2 v1 (x43 + p46.1) p57)
noncomputable def fm_keepAir_b2  (q : Int32 × mS) : Option ((Int32 × mS) ⊕ mS) :=
  if 28 ≤ q.1 then (
    some (.inr q.2))
  else (
    (ld 23 28 q.2 q.1).bind fun x18 =>
    (sto 22 28 q.2 q.1 x18).bind fun s19 =>
    some (.inl ((q.1 + 1), s19)))
noncomputable def fm_keepAir (s : mS) : Option (mS) :=
  (lp fm_keepAir_b2 (0, s)).bind fun q2 =>
  some q2
noncomputable def fm_stroke_j83 (s : mS) (t1 : Int32) (t2 : Int32) (t3 : Int32) : Option (Int32 × mS) :=
  (ld 23 28 s 27).bind fun x89 =>
  (rm x89 100).bind fun x92 =>
  if (s.1 50) ≤ x92 then (
    (fm_goStroke s t1 t2 t3 1).bind fun p105 =>
    (fm_keepAir p105.2).bind fun p111 =>
    some (p105.1, p111))
  else (
    (fm_goStroke s t1 t2 t3 2).bind fun p105 =>
    (fm_keepAir p105.2).bind fun p111 =>
    some (p105.1, p111))
noncomputable def fm_stroke_j37 (s : mS) (v1 : Int32) (v2 : Int32) (v3 : Int32) (t0 : Int32) (t1 : Int32) : Option (Int32 × mS) :=
  if t0 = t1 then (
    some ((-1), s))
  else (
    (fm_act s).bind fun p43 =>
    (ld 23 28 p43 27).bind fun x58 =>
    (rm ((x58 * 137) + 71) 1000).bind fun x69 =>
    (sto 23 28 p43 27 x69).bind fun s70 =>
    if v3 = 0 then (
      fm_stroke_j83 s70 v1 v2 (-1))
    else (
      fm_stroke_j83 s70 v1 v2 1))
noncomputable def fm_stroke (s : mS) (v1 : Int32) (v2 : Int32) (v3 : Int32) : Option (Int32 × mS) :=
  (fm_isBoard s v1).bind fun p2 =>
  if p2 = 0 then (
    some ((-1), s))
  else (
    (fm_isIn v2 (-1) 1).bind fun p11 =>
    if p11 = 0 then (
      some ((-1), s))
    else (
      (ld 22 28 s (4 + v1)).bind fun x24 =>
      if v3 = 0 then (
        fm_stroke_j37 s v1 v2 v3 x24 0)
      else (
        fm_stroke_j37 s v1 v2 v3 x24 (s.1 47))))
noncomputable def fm_isAtBank (s : mS) (v1 : Int32) : Option (Int32) :=
  (ld 22 28 s (4 + v1)).bind fun x7 =>
  if x7 = 0 then (
    some 1)
  else (
    (ld 22 28 s (4 + v1)).bind fun x18 =>
    if x18 = (s.1 47) then (
      some 1)
    else (
      some 0))
noncomputable def fm_bankOf (s : mS) (v1 : Int32) : Option (Int32) :=
  if v1 = 0 then (
    some (-1))
  else (
    some (-2))
noncomputable def fm_stow (s : mS) (v1 : Int32) (v2 : Int32) : Option (Int32 × mS) :=
  (fm_fill s).bind fun p1 =>
  (fm_isLoad p1 v1).bind fun p6 =>
  if p6 = 0 then (
    some ((-1), p1))
  else (
    (fm_isBoard p1 v2).bind fun p14 =>
    if p14 = 0 then (
      some ((-1), p1))
    else (
      (fm_isAtBank p1 v2).bind fun p22 =>
      if p22 = 0 then (
        some ((-1), p1))
      else (
        (ld 22 28 p1 (20 + v1)).bind fun x36 =>
        (ld 22 28 p1 (4 + v2)).bind fun x45 =>
        (fm_bankOf p1 x45).bind fun p46 =>
        if x36 = p46 then (
          (fm_burdenOf p1 v2).bind fun p54 =>
          (ld 21 7 p1 v1).bind fun x62 =>
          (ld 18 4 p1 v2).bind fun x69 =>
          if (p54 + x62) ≤ x69 then (
            (fm_act p1).bind fun p76 =>
            (sto 23 28 p76 (20 + v1) v2).bind fun s88 =>
            (fm_keepAir s88).bind fun p90 =>
            (fm_burdenOf p90 v2).bind fun p95 =>
            some (p95, p90))
          else (
            some ((-1), p1)))
        else (
          some ((-1), p1)))))
noncomputable def fm_take (s : mS) (v1 : Int32) : Option (Int32 × mS) :=
  (fm_isLoad s v1).bind fun p2 =>
  if p2 = 0 then (
    some ((-1), s))
  else (
    (ld 22 28 s (20 + v1)).bind fun x16 =>
    if x16 < 0 then (
      some ((-1), s))
    else (
      (ld 22 28 s (20 + v1)).bind fun x29 =>
      (fm_isAtBank s x29).bind fun p30 =>
      if p30 = 0 then (
        some ((-1), s))
      else (
        (fm_act s).bind fun p39 =>
        (ld 22 28 p39 (20 + v1)).bind fun x50 =>
        (ld 22 28 p39 (4 + x50)).bind fun x68 =>
        (fm_bankOf p39 x68).bind fun p69 =>
        (sto 22 28 p39 (20 + v1) p69).bind fun s72 =>
        some (x50, s72))))
noncomputable def fm_cool (s : mS) (v1 : Int32) (v2 : Int32) : Option (Int32 × mS) :=
  (fm_isBoard s v1).bind fun p2 =>
  if p2 = 0 then (
    some ((-1), s))
  else (
    (fm_isIn v2 1 9).bind fun p12 =>
    if p12 = 0 then (
      some ((-1), s))
    else (
      (fm_act s).bind fun p21 =>
      (ld 22 28 p21 (8 + v1)).bind fun x40 =>
      (fm_within (x40 - v2) 99).bind fun p45 =>
      (sto 22 28 p21 (8 + v1) p45).bind fun s48 =>
      (ld 22 28 s48 (8 + v1)).bind fun x57 =>
      some (x57, s48)))
noncomputable def fm_exchange_b2 (v1 : Int32) (q : Int32 × mS) : Option ((Int32 × mS) ⊕ mS) :=
  if 28 ≤ q.1 then (
    some (.inr q.2))
  else (
    (ld 24 1120 q.2 (v1 + q.1)).bind fun x15 =>
    (ld 22 28 q.2 q.1).bind fun x29 =>
    (sto 24 1120 q.2 (v1 + q.1) x29).bind fun s30 =>
    (sto 22 28 s30 q.1 x15).bind fun s37 =>
    some (.inl ((q.1 + 1), s37)))
noncomputable def fm_exchange (s : mS) (v1 : Int32) : Option (mS) :=
  (lp (fm_exchange_b2 v1) (0, s)).bind fun q2 =>
  some q2
noncomputable def fm_undo (s : mS) : Option (Int32 × mS) :=
  if (s.1 57) = 0 then (
    some (0, s))
  else (
    (pI 57 s ((s.1 57) - 1)).bind fun s16 =>
    (pI 58 s16 ((s16.1 58) + 1)).bind fun s26 =>
    (fm_exchange s26 (28 * (s26.1 57))).bind fun p37 =>
    some (1, p37))
noncomputable def fm_redo (s : mS) : Option (Int32 × mS) :=
  if (s.1 58) = 0 then (
    some (0, s))
  else (
    (fm_exchange s (28 * (s.1 57))).bind fun p17 =>
    (pI 57 p17 ((p17.1 57) + 1)).bind fun s27 =>
    (pI 58 s27 ((s27.1 58) - 1)).bind fun s37 =>
    some (1, s37))
noncomputable def fm_leftOf (s : mS) (v1 : Int32) : Option (Int32) :=
  (ld 22 28 s (4 + v1)).bind fun x11 =>
  some ((s.1 47) - x11)
noncomputable def fm_power_b4 (v0 : Int32) (v1 : Int32) (q : Int32 × Int32) : Option ((Int32 × Int32) ⊕ Int32) :=
  if v1 ≤ q.2 then (
    some (.inr q.1))
  else (
    some (.inl ((q.1 * v0), (q.2 + 1))))
noncomputable def fm_power (v0 : Int32) (v1 : Int32) : Option (Int32) :=
  (lp (fm_power_b4 v0 v1) (1, 0)).bind fun q4 =>
  some q4
noncomputable def fm_goRow_b18 (v1 : Int32) (v3 : Int32) (q : Int32 × Int32 × mS) : Option ((Int32 × Int32 × mS) ⊕ mS) :=
  if q.2.1 < 0 then (
    some (.inr q.2.2))
  else (
    (rm q.1 3).bind fun x32 =>
    (sto 25 6 q.2.2 q.2.1 (x32 - 1)).bind fun s35 =>
    (dv q.1 3).bind fun x39 =>
    some (.inl (x39, (q.2.1 + (-1)), s35)))
noncomputable def fm_goRow_b54 (v1 : Int32) (v3 : Int32) (q : Int32 × Int32 × mS) : Option ((Int32 × Int32 × mS) ⊕ (Int32 × mS)) :=
  if v3 ≤ q.2.1 then (
    some (.inr (q.1, q.2.2)))
  else (
    if q.1 = 0 then (
      some (.inr (q.1, q.2.2)))
    else (
      (ld 25 6 q.2.2 q.2.1).bind fun x73 =>
      (fm_goStroke q.2.2 v1 x73 1 1).bind fun p76 =>
      (rm p76.1 2).bind fun x80 =>
      if x80 = 0 then (
        some (.inl (1, (q.2.1 + 1), p76.2)))
      else (
        some (.inl (0, (q.2.1 + 1), p76.2)))))
noncomputable def fm_goRow (s : mS) (v1 : Int32) (v2 : Int32) : Option (Int32 × mS) :=
  (fm_fill s).bind fun p1 =>
  (fm_leftOf p1 v1).bind fun p6 =>
  (lp (fm_goRow_b18 v1 p6) (v2, (p6 - 1), p1)).bind fun q18 =>
  (lp (fm_goRow_b54 v1 p6) (1, 0, q18)).bind fun q54 =>
  if q54.1 = 0 ∨ q54.1 = 1 then some (q54.1, q54.2) else none
noncomputable def fm_landingsOf_b4 (v1 : Int32) (q : Int32 × Int32 × mS) : Option ((Int32 × Int32 × mS) ⊕ (Int32 × mS)) :=
  (fm_leftOf q.2.2 v1).bind fun p8 =>
  (fm_power 3 p8).bind fun p11 =>
  if p11 ≤ q.2.1 then (
    some (.inr (q.1, q.2.2)))
  else (
    (fm_goRow q.2.2 v1 q.2.1).bind fun p20 =>
    if p20.1 = 0 then (
      some (.inl (q.1, (q.2.1 + 1), p20.2)))
    else (
      (ld 23 28 p20.2 v1).bind fun x33 =>
      some (.inl ((q.1 ||| (1 <<< (x33 &&& 31))), (q.2.1 + 1), p20.2))))
noncomputable def fm_landingsOf (s : mS) (v1 : Int32) : Option (Int32 × mS) :=
  (lp (fm_landingsOf_b4 v1) (0, 0, s)).bind fun q4 =>
  some (q4.1, q4.2)
noncomputable def fm_landings (s : mS) (v1 : Int32) : Option (Int32 × mS) :=
  (fm_isBoard s v1).bind fun p2 =>
  if p2 = 0 then (
    some ((-1), s))
  else (
    (fm_landingsOf s v1).bind fun p10 =>
    some (p10.1, p10.2))
noncomputable def fm_unsteered (s : mS) (v1 : Int32) : Option (Int32) :=
  (fm_leftOf s v1).bind fun p3 =>
  (fm_power 3 p3).bind fun p6 =>
  (dv (p6 - 1) 2).bind fun x12 =>
  some x12
noncomputable def fm_drift (s : mS) (v1 : Int32) : Option (Int32 × mS) :=
  (fm_isBoard s v1).bind fun p2 =>
  if p2 = 0 then (
    some ((-1), s))
  else (
    (fm_unsteered s v1).bind fun p12 =>
    (fm_goRow s v1 p12).bind fun p15 =>
    if p15.1 = 0 then (
      some ((-1), p15.2))
    else (
      (ld 23 28 p15.2 v1).bind fun x26 =>
      some (x26, p15.2)))
noncomputable def fm_rows_b14 (v1 : Int32) (q : Int32 × Int32 × mS) : Option ((Int32 × Int32 × mS) ⊕ (Int32 × mS)) :=
  (fm_leftOf q.2.2 v1).bind fun p18 =>
  (fm_power 3 p18).bind fun p21 =>
  if p21 ≤ q.2.1 then (
    some (.inr (q.1, q.2.2)))
  else (
    (fm_goRow q.2.2 v1 q.2.1).bind fun p31 =>
    (fm_truth p31.1).bind fun p34 =>
    some (.inl ((q.1 + p34), (q.2.1 + 1), p31.2)))
noncomputable def fm_rows (s : mS) (v1 : Int32) : Option (Int32 × mS) :=
  (fm_isBoard s v1).bind fun p2 =>
  if p2 = 0 then (
    some ((-1), s))
  else (
    (lp (fm_rows_b14 v1) (0, 0, s)).bind fun q14 =>
    some (q14.1, q14.2))
noncomputable def fm_putSteers_b11  (q : Int32 × mS) : Option ((Int32 × mS) ⊕ mS) :=
  if (q.2.1 61) ≤ q.1 then (
    some (.inr q.2))
  else (
    (ld 25 6 q.2 q.1).bind fun x29 =>
    (sto 26 7 q.2 q.1 x29).bind fun s30 =>
    some (.inl ((q.1 + 1), s30)))
noncomputable def fm_putSteers (s : mS) (v1 : Int32) : Option (mS) :=
  (fm_leftOf s v1).bind fun p3 =>
  (pI 61 s p3).bind fun s6 =>
  (lp fm_putSteers_b11 (0, s6)).bind fun q11 =>
  some q11
noncomputable def fm_coolest_b34 (v1 : Int32) (v2 : Int32) (q : Int32 × Int32 × Int32 × mS) : Option ((Int32 × Int32 × Int32 × mS) ⊕ (Int32 × Int32 × mS)) :=
  (fm_leftOf q.2.2.2 v1).bind fun p39 =>
  (fm_power 3 p39).bind fun p42 =>
  if p42 ≤ q.2.2.1 then (
    some (.inr (q.1, q.2.1, q.2.2.2)))
  else (
    (fm_goRow q.2.2.2 v1 q.2.2.1).bind fun p52 =>
    if p52.1 = 0 then (
      some (.inl (q.1, q.2.1, (q.2.2.1 + 1), p52.2)))
    else (
      (ld 23 28 p52.2 (12 + v1)).bind fun x71 =>
      (ld 22 28 p52.2 (12 + v1)).bind fun x80 =>
      (ld 23 28 p52.2 (8 + v1)).bind fun x91 =>
      if ((100 * (x71 - x80)) + x91) < q.1 then (
        (ld 23 28 p52.2 v1).bind fun x112 =>
        (fm_putSteers p52.2 v1).bind fun p117 =>
        some (.inl (((100 * (x71 - x80)) + x91), x112, (q.2.2.1 + 1), p117)))
      else (
        some (.inl (q.1, q.2.1, (q.2.2.1 + 1), p52.2)))))
noncomputable def fm_coolest (s : mS) (v1 : Int32) (v2 : Int32) : Option (Int32 × mS) :=
  (pI 61 s 0).bind fun s2 =>
  (fm_isBoard s2 v1).bind fun p7 =>
  if p7 = 0 then (
    some ((-1), s2))
  else (
    (fm_isIn v2 0 2).bind fun p16 =>
    if p16 = 0 then (
      some ((-1), s2))
    else (
      (lp (fm_coolest_b34 v1 v2) (1000000, (-1), 0, s2)).bind fun q34 =>
      if 0 ≤ q34.2.1 then (
        if v2 = 0 then (
          (dv q34.1 100).bind fun x142 =>
          some (x142, q34.2.2))
        else (
          if v2 = 1 then (
            (rm q34.1 100).bind fun x154 =>
            some (x154, q34.2.2))
          else (
            some (q34.2.1, q34.2.2))))
      else (
        some ((-1), q34.2.2))))
noncomputable def fm_turned_b4 (s : mS) (v1 : Int32) (q : Int32 × Int32) : Option ((Int32 × Int32) ⊕ Int32) :=
  if v1 ≤ q.2 then (
    some (.inr q.1))
  else (
    (ld 25 6 s q.2).bind fun x15 =>
    if x15 = 0 then (
      (fm_truth 0).bind fun p24 =>
      some (.inl ((q.1 + p24), (q.2 + 1))))
    else (
      (fm_truth 1).bind fun p24 =>
      some (.inl ((q.1 + p24), (q.2 + 1)))))
noncomputable def fm_turned (s : mS) (v1 : Int32) : Option (Int32) :=
  (lp (fm_turned_b4 s v1) (0, 0)).bind fun q4 =>
  some q4
noncomputable def fm_straight_b36 (v1 : Int32) (v2 : Int32) (q : Int32 × Int32 × mS) : Option ((Int32 × Int32 × mS) ⊕ (Int32 × mS)) :=
  (fm_leftOf q.2.2 v1).bind fun p41 =>
  (fm_power 3 p41).bind fun p44 =>
  if p44 ≤ q.2.1 then (
    some (.inr (q.1, q.2.2)))
  else (
    (fm_goRow q.2.2 v1 q.2.1).bind fun p54 =>
    if p54.1 = 0 then (
      some (.inl (q.1, (q.2.1 + 1), p54.2)))
    else (
      (ld 23 28 p54.2 v1).bind fun x65 =>
      if x65 = v2 then (
        (fm_leftOf p54.2 v1).bind fun p73 =>
        (fm_turned p54.2 p73).bind fun p76 =>
        if p76 < q.1 then (
          (fm_leftOf p54.2 v1).bind fun p89 =>
          (fm_turned p54.2 p89).bind fun p92 =>
          (fm_putSteers p54.2 v1).bind fun p98 =>
          some (.inl (p92, (q.2.1 + 1), p98)))
        else (
          some (.inl (q.1, (q.2.1 + 1), p54.2))))
      else (
        some (.inl (q.1, (q.2.1 + 1), p54.2)))))
noncomputable def fm_straight (s : mS) (v1 : Int32) (v2 : Int32) : Option (Int32 × mS) :=
  (pI 61 s 0).bind fun s2 =>
  (fm_isBoard s2 v1).bind fun p7 =>
  if p7 = 0 then (
    some ((-1), s2))
  else (
    (fm_isIn v2 0 ((s2.1 46) - 1)).bind fun p21 =>
    if p21 = 0 then (
      some ((-1), s2))
    else (
      (lp (fm_straight_b36 v1 v2) (1000000, 0, s2)).bind fun q36 =>
      if q36.1 = 1000000 then (
        some ((-1), q36.2))
      else (
        some (q36.1, q36.2))))
noncomputable def fm_wideOf_b4 (s : mS) (v1 : Int32) (q : Int32 × Int32) : Option ((Int32 × Int32) ⊕ Int32) :=
  if (s.1 49) ≤ q.2 then (
    some (.inr q.1))
  else (
    if ((v1 >>> (q.2 &&& 31)) &&& 1) = 1 then (
      (ld 21 7 s q.2).bind fun x27 =>
      some (.inl ((q.1 + x27), (q.2 + 1))))
    else (
      some (.inl ((q.1 + 0), (q.2 + 1)))))
noncomputable def fm_wideOf (s : mS) (v1 : Int32) : Option (Int32) :=
  (lp (fm_wideOf_b4 s v1) (0, 0)).bind fun q4 =>
  some q4
noncomputable def fm_widest_b54 (s : mS) (v1 : Int32) (v2 : Int32) (v3 : Int32) (q : Int32 × Int32) : Option ((Int32 × Int32) ⊕ Int32) :=
  if v3 < q.2 then (
    some (.inr q.1))
  else (
    if (q.2 &&& (v3 ^^^ (-1))) = 0 then (
      (fm_burdenOf s v1).bind fun p71 =>
      (fm_wideOf s q.2).bind fun p77 =>
      (ld 18 4 s v1).bind fun x86 =>
      if x86 < (p71 + p77) then (
        some (.inl (q.1, (q.2 + 1))))
      else (
        (fm_wideOf s q.2).bind fun p93 =>
        (fm_wideOf s q.1).bind fun p99 =>
        if p93 ≤ p99 then (
          some (.inl (q.1, (q.2 + 1))))
        else (
          some (.inl (q.2, (q.2 + 1))))))
    else (
      some (.inl (q.1, (q.2 + 1)))))
noncomputable def fm_widest (s : mS) (v1 : Int32) (v2 : Int32) : Option (Int32 × mS) :=
  (fm_isBoard s v1).bind fun p2 =>
  if p2 = 0 then (
    some ((-1), s))
  else (
    (fm_isAtBank s v1).bind fun p10 =>
    if p10 = 0 then (
      some ((-1), s))
    else (
      (fm_isIn v2 0 1).bind fun p19 =>
      if p19 = 0 then (
        some ((-1), s))
      else (
        (fm_fill s).bind fun p28 =>
        (ld 22 28 p28 (4 + v1)).bind fun x40 =>
        (fm_bankOf p28 x40).bind fun p41 =>
        (fm_loadsAt p28 p41).bind fun p44 =>
        (lp (fm_widest_b54 p28 v1 v2 p44) (0, 1)).bind fun q54 =>
        if v2 = 0 then (
          (fm_wideOf p28 q54).bind fun p122 =>
          some (p122, p28))
        else (
          some (q54, p28)))))
noncomputable def fm_nearLoads (s : mS) : Option (Int32 × mS) :=
  (fm_fill s).bind fun p1 =>
  (fm_loadsAt p1 (-1)).bind fun p6 =>
  some (p6, p1)
noncomputable def fm_layBefore_b4 (v1 : Int32) (q : Int32 × Int32 × mS) : Option ((Int32 × Int32 × mS) ⊕ (Int32 × mS)) :=
  if (q.2.2.1 49) ≤ q.2.1 then (
    some (.inr (q.1, q.2.2)))
  else (
    (sto 28 8 q.2.2 q.2.1 q.1).bind fun s18 =>
    if ((v1 >>> (q.2.1 &&& 31)) &&& 1) = 1 then (
      (ld 27 7 s18 q.2.1).bind fun x33 =>
      if x33 = q.1 then (
        some (.inl ((q.1 + 1), (q.2.1 + 1), s18)))
      else (
        some (.inl (q.1, (q.2.1 + 1), s18))))
    else (
      some (.inl (q.1, (q.2.1 + 1), s18))))
noncomputable def fm_layBefore (s : mS) (v1 : Int32) : Option (Int32 × mS) :=
  (lp (fm_layBefore_b4 v1) (0, 0, s)).bind fun q4 =>
  some (q4.1, q4.2)
noncomputable def fm_isFlat_b2 (v1 : Int32) (v2 : Int32) (q : Int32 × mS) : Option ((Int32 × mS) ⊕ mS) :=
  if 8 ≤ q.1 then (
    some (.inr q.2))
  else (
    (sto 29 8 q.2 q.1 0).bind fun s14 =>
    some (.inl ((q.1 + 1), s14)))
noncomputable def fm_isFlat_b26 (v1 : Int32) (v2 : Int32) (q : Int32 × Int32 × mS) : Option ((Int32 × Int32 × mS) ⊕ (Int32 × mS)) :=
  if (q.2.2.1 49) ≤ q.2.1 then (
    some (.inr (q.1, q.2.2)))
  else (
    if ((v1 >>> (q.2.1 &&& 31)) &&& 1) = 0 then (
      some (.inl (q.1, (q.2.1 + 1), q.2.2)))
    else (
      (ld 27 7 q.2.2 q.2.1).bind fun x57 =>
      (ld 29 8 q.2.2 x57).bind fun x59 =>
      (ld 21 7 q.2.2 q.2.1).bind fun x66 =>
      (sto 29 8 q.2.2 x57 (x59 + x66)).bind fun s68 =>
      if q.1 = 0 then (
        some (.inl (0, (q.2.1 + 1), s68)))
      else (
        (ld 27 7 s68 q.2.1).bind fun x83 =>
        (ld 29 8 s68 x83).bind fun x84 =>
        if v2 < x84 then (
          some (.inl (0, (q.2.1 + 1), s68)))
        else (
          some (.inl (1, (q.2.1 + 1), s68))))))
noncomputable def fm_isFlat (s : mS) (v1 : Int32) (v2 : Int32) : Option (Int32 × mS) :=
  (lp (fm_isFlat_b2 v1 v2) (0, s)).bind fun q2 =>
  (lp (fm_isFlat_b26 v1 v2) (1, 0, q2)).bind fun q26 =>
  if q26.1 = 0 ∨ q26.1 = 1 then some (q26.1, q26.2) else none
noncomputable def fm_nextTrips_b7 (s : mS) (v1 : Int32) (q : Int32) : Option (Int32 ⊕ Int32) :=
  if q < 0 then (
    some (.inr q))
  else (
    if ((v1 >>> (q &&& 31)) &&& 1) = 0 then (
      some (.inl (q + (-1))))
    else (
      (ld 27 7 s q).bind fun x24 =>
      (ld 28 8 s q).bind fun x30 =>
      if x24 = x30 then (
        some (.inl (q + (-1))))
      else (
        some (.inr q))))
noncomputable def fm_nextTrips_b60 (v1 : Int32) (q : Int32 × mS) : Option ((Int32 × mS) ⊕ mS) :=
  if (q.2.1 49) ≤ q.1 then (
    some (.inr q.2))
  else (
    (sto 27 7 q.2 q.1 0).bind fun s74 =>
    some (.inl ((q.1 + 1), s74)))
noncomputable def fm_nextTrips_j40 (s : mS) (v1 : Int32) (v2 : Int32) : Option (Int32 × mS) :=
  if 0 ≤ v2 then (
    (ld 27 7 s v2).bind fun x52 =>
    (sto 27 7 s v2 (x52 + 1)).bind fun s55 =>
    (lp (fm_nextTrips_b60 v1) ((v2 + 1), s55)).bind fun q60 =>
    (fm_layBefore q60 v1).bind fun p83 =>
    some (1, p83.2))
  else (
    some (0, s))
noncomputable def fm_nextTrips (s : mS) (v1 : Int32) : Option (Int32 × mS) :=
  (lp (fm_nextTrips_b7 s v1) ((s.1 49) - 1)).bind fun q7 =>
  fm_nextTrips_j40 s v1 q7
noncomputable def fm_trips_b27 (v1 : Int32) (v2 : Int32) (v3 : Int32) (q : Int32 × mS) : Option ((Int32 × mS) ⊕ mS) :=
  if 7 ≤ q.1 then (
    some (.inr q.2))
  else (
    (sto 27 7 q.2 q.1 0).bind fun s41 =>
    some (.inl ((q.1 + 1), s41)))
noncomputable def fm_trips_b95 (v1 : Int32) (v2 : Int32) (v3 : Int32) (q : Int32 × mS) : Option ((Int32 × mS) ⊕ mS) :=
  if (q.2.1 49) ≤ q.1 then (
    some (.inr q.2))
  else (
    if ((v2 >>> (q.1 &&& 31)) &&& 1) = 1 then (
      (ld 27 7 q.2 q.1).bind fun x126 =>
      (sto 26 7 q.2 q.1 x126).bind fun s131 =>
      some (.inl ((q.1 + 1), s131)))
    else (
      (sto 26 7 q.2 q.1 (-1)).bind fun s131 =>
      some (.inl ((q.1 + 1), s131))))
noncomputable def fm_trips_b57 (v1 : Int32) (v2 : Int32) (q : Int32 × Int32 × mS) : Option ((Int32 × Int32 × mS) ⊕ (Int32 × mS)) :=
  if q.2.1 = 0 then (
    some (.inr (q.1, q.2.2)))
  else (
    (fm_layBefore q.2.2 v2).bind fun p64 =>
    if q.1 ≤ p64.1 then (
      (fm_nextTrips p64.2 v2).bind fun p148 =>
      some (.inl (q.1, p148.1, p148.2)))
    else (
      (ld 18 4 p64.2 v1).bind fun x82 =>
      (fm_isFlat p64.2 v2 x82).bind fun p83 =>
      if p83.1 = 0 then (
        (fm_nextTrips p83.2 v2).bind fun p148 =>
        some (.inl (q.1, p148.1, p148.2)))
      else (
        (lp (fm_trips_b95 v1 v2 p64.1) (0, p83.2)).bind fun q95 =>
        (pI 61 q95 (q95.1 49)).bind fun s143 =>
        (fm_nextTrips s143 v2).bind fun p148 =>
        some (.inl (p64.1, p148.1, p148.2)))))
noncomputable def fm_trips (s : mS) (v1 : Int32) : Option (Int32 × mS) :=
  (pI 61 s 0).bind fun s2 =>
  (fm_isBoard s2 v1).bind fun p7 =>
  if p7 = 0 then (
    some ((-1), s2))
  else (
    (fm_nearLoads s2).bind fun p16 =>
    (lp (fm_trips_b27 v1 p16.1 1000000) (0, p16.2)).bind fun q27 =>
    (fm_layBefore q27 p16.1).bind fun p50 =>
    (lp (fm_trips_b57 v1 p16.1) (1000000, 1, p50.2)).bind fun q57 =>
    if q57.1 = 1000000 then (
      some ((-1), q57.2))
    else (
      some (q57.1, q57.2)))
noncomputable def fm_stowBy_b17 (v1 : Int32) (q : Int32 × Int32 × Int32 × mS) : Option ((Int32 × Int32 × Int32 × mS) ⊕ ((Int32 × mS) ⊕ (Int32 × mS))) :=
  if q.2.2.1 < 0 then (
    some (.inr (.inl (q.2.1, q.2.2.2))))
  else (
    (rm q.1 4).bind fun x24 =>
    (dv q.1 4).bind fun x29 =>
    if ((v1 >>> (q.2.2.1 &&& 31)) &&& 1) = 0 then (
      if x24 ≤ 0 then (
        some (.inl (x29, q.2.1, (q.2.2.1 + (-1)), q.2.2.2)))
      else (
        some (.inr (.inr ((-1), q.2.2.2)))))
    else (
      if (q.2.2.2.1 48) ≤ x24 then (
        some (.inr (.inr ((-1), q.2.2.2))))
      else (
        (ld 22 28 q.2.2.2 (4 + x24)).bind fun x64 =>
        if x64 ≤ 0 then (
          (sto 23 28 q.2.2.2 (20 + q.2.2.1) x24).bind fun s81 =>
          some (.inl (x29, (q.2.1 ||| (1 <<< (x24 &&& 31))), (q.2.2.1 + (-1)), s81)))
        else (
          some (.inr (.inr ((-1), q.2.2.2)))))))
noncomputable def fm_stowBy_b100 (s : mS) (v4 : Int32) (q : Int32) : Option (Int32 ⊕ (Unit ⊕ (Int32 × mS))) :=
  if (s.1 48) ≤ q then (
    some (.inr (.inl ())))
  else (
    if ((v4 >>> (q &&& 31)) &&& 1) = 1 then (
      (fm_burdenOf s q).bind fun p123 =>
      (ld 18 4 s q).bind fun x132 =>
      if p123 ≤ x132 then (
        some (.inl (q + 1)))
      else (
        some (.inr (.inr ((-1), s)))))
    else (
      some (.inl (q + 1))))
noncomputable def fm_stowBy (s : mS) (v1 : Int32) (v2 : Int32) : Option (Int32 × mS) :=
  (fm_fill s).bind fun p1 =>
  (lp (fm_stowBy_b17 v1) (v2, 0, ((p1.1 49) - 1), p1)).bind (Sum.elim (fun q17 =>
    (lp (fm_stowBy_b100 q17.2 q17.1) 0).bind (Sum.elim (fun q100 =>
      some (q17.1, q17.2)) (fun q100r => some q100r))) (fun q17r => some q17r))
noncomputable def fm_members_b4 (v0 : Int32) (q : Int32 × Int32) : Option ((Int32 × Int32) ⊕ Int32) :=
  if 8 ≤ q.2 then (
    some (.inr q.1))
  else (
    some (.inl ((q.1 + ((v0 >>> (q.2 &&& 31)) &&& 1)), (q.2 + 1))))
noncomputable def fm_members (v0 : Int32) : Option (Int32) :=
  (lp (fm_members_b4 v0) (0, 0)).bind fun q4 =>
  some q4
noncomputable def fm_stowing_b62 (v1 : Int32) (v2 : Int32) (v3 : Int32) (q : Int32 × mS) : Option ((Int32 × mS) ⊕ mS) :=
  if (q.2.1 49) ≤ q.1 then (
    some (.inr q.2))
  else (
    if ((v1 >>> (q.1 &&& 31)) &&& 1) = 1 then (
      (ld 23 28 q.2 (20 + q.1)).bind fun x96 =>
      (sto 26 7 q.2 q.1 x96).bind fun s101 =>
      some (.inl ((q.1 + 1), s101)))
    else (
      (sto 26 7 q.2 q.1 (-1)).bind fun s101 =>
      some (.inl ((q.1 + 1), s101))))
noncomputable def fm_stowing_b16 (v1 : Int32) (q : Int32 × Int32 × mS) : Option ((Int32 × Int32 × mS) ⊕ (Int32 × mS)) :=
  (fm_power 4 (q.2.2.1 49)).bind fun p22 =>
  if p22 ≤ q.2.1 then (
    some (.inr (q.1, q.2.2)))
  else (
    (fm_stowBy q.2.2 v1 q.2.1).bind fun p31 =>
    if p31.1 < 0 then (
      some (.inl (q.1, (q.2.1 + 1), p31.2)))
    else (
      (fm_members p31.1).bind fun p43 =>
      if p43 < q.1 then (
        (fm_members p31.1).bind fun p55 =>
        (lp (fm_stowing_b62 v1 p55 q.2.1) (0, p31.2)).bind fun q62 =>
        (pI 61 q62 (q62.1 49)).bind fun s113 =>
        some (.inl (p55, (q.2.1 + 1), s113)))
      else (
        some (.inl (q.1, (q.2.1 + 1), p31.2)))))
noncomputable def fm_stowing (s : mS) : Option (Int32 × mS) :=
  (pI 61 s 0).bind fun s2 =>
  (fm_nearLoads s2).bind fun p6 =>
  (lp (fm_stowing_b16 p6.1) (1000000, 0, p6.2)).bind fun q16 =>
  if q16.1 = 1000000 then (
    some ((-1), q16.2))
  else (
    some (q16.1, q16.2))
noncomputable def fm_plain (v0 : Int32) : Option (Int32) :=
  if 0 ≤ v0 then (
    some v0)
  else (
    some (-v0))
noncomputable def fm_areBeside_b4 (s : mS) (q : Int32 × Int32) : Option ((Int32 × Int32) ⊕ Int32) :=
  if 64 ≤ q.2 then (
    some (.inr q.1))
  else (
    if q.1 = 0 then (
      (ld 30 64 s q.2).bind fun x19 =>
      if x19 = 0 then (
        some (.inl (0, (q.2 + 1))))
      else (
        (dv q.2 8).bind fun x26 =>
        (rm q.2 8).bind fun x30 =>
        (fm_plain (x26 - x30)).bind fun p32 =>
        if p32 = 1 then (
          some (.inl (1, (q.2 + 1))))
        else (
          some (.inl (0, (q.2 + 1))))))
    else (
      some (.inl (1, (q.2 + 1)))))
noncomputable def fm_areBeside (s : mS) : Option (Int32) :=
  (lp (fm_areBeside_b4 s) (0, 0)).bind fun q4 =>
  if q4 = 0 ∨ q4 = 1 then some q4 else none
noncomputable def fm_goBoth_b2 (v1 : Int32) (q : Int32 × mS) : Option ((Int32 × mS) ⊕ mS) :=
  if 64 ≤ q.1 then (
    some (.inr q.2))
  else (
    (stb 31 64 q.2 q.1 0).bind fun s14 =>
    some (.inl ((q.1 + 1), s14)))
noncomputable def fm_goBoth_b31 (v1 : Int32) (v2 : Int32) (q : Int32 × mS) : Option ((Int32 × mS) ⊕ mS) :=
  if 9 ≤ q.1 then (
    some (.inr q.2))
  else (
    (ld 30 64 q.2 v2).bind fun x42 =>
    if x42 = 0 then (
      some (.inr q.2))
    else (
      (dv v2 8).bind fun x50 =>
      (dv q.1 3).bind fun x54 =>
      (fm_columnBy q.2 x50 v1 (x54 - 1) 1).bind fun p58 =>
      (rm v2 8).bind fun x67 =>
      (rm q.1 3).bind fun x71 =>
      (fm_columnBy q.2 x67 v1 (x71 - 1) 1).bind fun p75 =>
      (fm_isIron q.2 p58 (v1 + 1)).bind fun p86 =>
      if p86 = 0 then (
        (fm_isIron q.2 p75 (v1 + 1)).bind fun p98 =>
        if p98 = 0 then (
          (stb 31 64 q.2 ((8 * p58) + p75) 1).bind fun s117 =>
          some (.inl ((q.1 + 1), s117)))
        else (
          some (.inl ((q.1 + 1), q.2))))
      else (
        some (.inl ((q.1 + 1), q.2)))))
noncomputable def fm_goBoth_b23 (v1 : Int32) (q : Int32 × mS) : Option ((Int32 × mS) ⊕ mS) :=
  if 64 ≤ q.1 then (
    some (.inr q.2))
  else (
    (lp (fm_goBoth_b31 v1 q.1) (0, q.2)).bind fun q31 =>
    some (.inl ((q.1 + 1), q31)))
noncomputable def fm_goBoth_b132  (q : Int32 × mS) : Option ((Int32 × mS) ⊕ mS) :=
  if 64 ≤ q.1 then (
    some (.inr q.2))
  else (
    (ld 31 64 q.2 q.1).bind fun x148 =>
    (stb 30 64 q.2 q.1 x148).bind fun s149 =>
    some (.inl ((q.1 + 1), s149)))
noncomputable def fm_goBoth (s : mS) (v1 : Int32) : Option (mS) :=
  (lp (fm_goBoth_b2 v1) (0, s)).bind fun q2 =>
  (lp (fm_goBoth_b23 v1) (0, q2)).bind fun q23 =>
  (lp fm_goBoth_b132 (0, q23)).bind fun q132 =>
  some q132
noncomputable def fm_meet_b44 (v1 : Int32) (v2 : Int32) (q : Int32 × mS) : Option ((Int32 × mS) ⊕ mS) :=
  if 64 ≤ q.1 then (
    some (.inr q.2))
  else (
    (ld 22 28 q.2 v1).bind fun x63 =>
    (ld 22 28 q.2 v2).bind fun x70 =>
    if q.1 = ((8 * x63) + x70) then (
      (stb 30 64 q.2 q.1 1).bind fun s80 =>
      some (.inl ((q.1 + 1), s80)))
    else (
      (stb 30 64 q.2 q.1 0).bind fun s80 =>
      some (.inl ((q.1 + 1), s80))))
noncomputable def fm_meet_b89 (v1 : Int32) (q : Int32 × mS) : Option ((Int32 × mS) ⊕ (mS ⊕ (Int32 × mS))) :=
  (fm_leftOf q.2 v1).bind fun p92 =>
  if p92 < q.1 then (
    some (.inr (.inl q.2)))
  else (
    (fm_areBeside q.2).bind fun p99 =>
    if p99 = 0 then (
      (fm_leftOf q.2 v1).bind fun p110 =>
      if p110 ≤ q.1 then (
        some (.inl ((q.1 + 1), q.2)))
      else (
        (ld 22 28 q.2 (4 + v1)).bind fun x124 =>
        (fm_goBoth q.2 (x124 + q.1)).bind fun p127 =>
        some (.inl ((q.1 + 1), p127))))
    else (
      some (.inr (.inr (q.1, q.2)))))
noncomputable def fm_meet (s : mS) (v1 : Int32) (v2 : Int32) : Option (Int32 × mS) :=
  (fm_isBoard s v1).bind fun p2 =>
  if p2 = 0 then (
    some ((-1), s))
  else (
    (fm_isBoard s v2).bind fun p10 =>
    if p10 = 0 then (
      some ((-1), s))
    else (
      if v1 = v2 then (
        some ((-1), s))
      else (
        (ld 22 28 s (4 + v1)).bind fun x28 =>
        (ld 22 28 s (4 + v2)).bind fun x36 =>
        if x28 = x36 then (
          (lp (fm_meet_b44 v1 v2) (0, s)).bind fun q44 =>
          (lp (fm_meet_b89 v1) (0, q44)).bind (Sum.elim (fun q89 =>
            some ((-1), q89)) (fun q89r => some q89r)))
        else (
          some ((-1), s)))))
noncomputable def fm_layMooring_b15  (q : Int32 × Int32 × Int32 × Int32 × mS) : Option ((Int32 × Int32 × Int32 × Int32 × mS) ⊕ ((Int32 × mS) ⊕ (Int32 × mS))) :=
  if q.2.2.2.1 < 0 then (
    some (.inr (.inl (q.2.2.1, q.2.2.2.2))))
  else (
    (rm q.1 9).bind fun x29 =>
    (sto 33 4 q.2.2.2.2 q.2.2.2.1 x29).bind fun s30 =>
    (dv q.1 9).bind fun x34 =>
    (ld 33 4 s30 q.2.2.2.1).bind fun x42 =>
    if x42 = 8 then (
      some (.inl (x34, q.2.1, q.2.2.1, (q.2.2.2.1 + (-1)), s30)))
    else (
      (ld 32 4 s30 q.2.2.2.1).bind fun x57 =>
      (ld 33 4 s30 q.2.2.2.1).bind fun x64 =>
      if ((x57 >>> (x64 &&& 31)) &&& 1) = 0 then (
        some (.inr (.inr ((-1), s30))))
      else (
        (ld 33 4 s30 q.2.2.2.1).bind fun x78 =>
        if ((q.2.1 >>> (x78 &&& 31)) &&& 1) = 1 then (
          some (.inr (.inr ((-1), s30))))
        else (
          (ld 33 4 s30 q.2.2.2.1).bind fun x96 =>
          some (.inl (x34, (q.2.1 ||| (1 <<< (x96 &&& 31))), (q.2.2.1 + 1), (q.2.2.2.1 + (-1)), s30))))))
noncomputable def fm_layMooring (s : mS) (v1 : Int32) : Option (Int32 × mS) :=
  (lp fm_layMooring_b15 (v1, 0, 0, ((s.1 48) - 1), s)).bind (Sum.elim (fun q15 =>
    some (q15.1, q15.2)) (fun q15r => some q15r))
noncomputable def fm_betweenAll_b4 (s : mS) (q : Int32 × Int32) : Option ((Int32 × Int32) ⊕ Int32) :=
  if (s.1 48) ≤ q.2 then (
    some (.inr q.1))
  else (
    (ld 33 4 s q.2).bind fun x18 =>
    if x18 = 8 then (
      some (.inl ((q.1 + 0), (q.2 + 1))))
    else (
      (ld 33 4 s q.2).bind fun x33 =>
      (ld 22 28 s q.2).bind fun x39 =>
      (fm_plain (x33 - x39)).bind fun p41 =>
      some (.inl ((q.1 + p41), (q.2 + 1)))))
noncomputable def fm_betweenAll (s : mS) : Option (Int32) :=
  (lp (fm_betweenAll_b4 s) (0, 0)).bind fun q4 =>
  some q4
noncomputable def fm_mooring_b13 (v1 : Int32) (q : Int32 × mS) : Option ((Int32 × mS) ⊕ mS) :=
  if (q.2.1 48) ≤ q.1 then (
    some (.inr q.2))
  else (
    (ld 22 28 q.2 (4 + q.1)).bind fun x33 =>
    if x33 = 0 then (
      (fm_landingsOf q.2 q.1).bind fun p39 =>
      (sto 32 4 p39.2 q.1 p39.1).bind fun s46 =>
      some (.inl ((q.1 + 1), s46)))
    else (
      (sto 32 4 q.2 q.1 0).bind fun s46 =>
      some (.inl ((q.1 + 1), s46))))
noncomputable def fm_mooring_b121 (v1 : Int32) (v2 : Int32) (v3 : Int32) (v4 : Int32) (q : Int32 × mS) : Option ((Int32 × mS) ⊕ mS) :=
  if (q.2.1 48) ≤ q.1 then (
    some (.inr q.2))
  else (
    (ld 33 4 q.2 q.1).bind fun x142 =>
    if x142 = 8 then (
      (sto 26 7 q.2 q.1 (-1)).bind fun s159 =>
      some (.inl ((q.1 + 1), s159)))
    else (
      (ld 33 4 q.2 q.1).bind fun x158 =>
      (sto 26 7 q.2 q.1 x158).bind fun s159 =>
      some (.inl ((q.1 + 1), s159))))
noncomputable def fm_mooring_j110 (s : mS) (v1 : Int32) (v4 : Int32) (v5 : Int32) : Option ((Int32 × Int32 × Int32 × mS) ⊕ (Int32 × Int32 × mS)) :=
  (fm_betweenAll s).bind fun p114 =>
  (lp (fm_mooring_b121 v1 v5 p114 v4) (0, s)).bind fun q121 =>
  (pI 61 q121 (q121.1 48)).bind fun s171 =>
  some (.inl (v5, p114, (v4 + 1), s171))
noncomputable def fm_mooring_b60 (v1 : Int32) (q : Int32 × Int32 × Int32 × mS) : Option ((Int32 × Int32 × Int32 × mS) ⊕ (Int32 × Int32 × mS)) :=
  (fm_power 9 (q.2.2.2.1 48)).bind fun p68 =>
  if p68 ≤ q.2.2.1 then (
    some (.inr (q.1, q.2.1, q.2.2.2)))
  else (
    (fm_layMooring q.2.2.2 q.2.2.1).bind fun p77 =>
    if p77.1 < 0 then (
      some (.inl (q.1, q.2.1, (q.2.2.1 + 1), p77.2)))
    else (
      if p77.1 < q.1 then (
        some (.inl (q.1, q.2.1, (q.2.2.1 + 1), p77.2)))
      else (
        if p77.1 = q.1 then (
          (fm_betweenAll p77.2).bind fun p100 =>
          if p100 < q.2.1 then (
            fm_mooring_j110 p77.2 v1 q.2.2.1 p77.1)
          else (
            some (.inl (q.1, q.2.1, (q.2.2.1 + 1), p77.2))))
        else (
          fm_mooring_j110 p77.2 v1 q.2.2.1 p77.1))))
noncomputable def fm_mooring (s : mS) (v1 : Int32) : Option (Int32 × mS) :=
  (fm_isIn v1 0 1).bind fun p3 =>
  if p3 = 0 then (
    some ((-1), s))
  else (
    (lp (fm_mooring_b13 v1) (0, s)).bind fun q13 =>
    (lp (fm_mooring_b60 v1) ((-1), 0, 0, q13)).bind fun q60 =>
    if v1 = 0 then (
      some (q60.1, q60.2.2))
    else (
      some (q60.2.1, q60.2.2)))
noncomputable def fm_guestWorth_j11 (s : mS) (v1 : Int32) (v2 : Int32) (t0 : Int32) : Option (Int32) :=
  (ld 22 28 s v1).bind fun x17 =>
  (fm_plain (v2 - x17)).bind fun p19 =>
  some (t0 - p19)
noncomputable def fm_guestWorth (s : mS) (v1 : Int32) (v2 : Int32) (v3 : Int32) : Option (Int32) :=
  if v2 = v3 then (
    fm_guestWorth_j11 s v1 v2 3)
  else (
    fm_guestWorth_j11 s v1 v2 9)
noncomputable def fm_isRest_j58 (s : mS) (v1 : Int32) (v2 : Int32) (v3 : Int32) (v4 : Int32) (v5 : Int32) (v6 : Int32) (v7 : Int32) (v8 : Int32) : Option ((Int32 × Int32) ⊕ Int32) :=
  if ((v4 >>> (v8 &&& 31)) &&& 1) = 1 then (
    if v7 = 0 then (
      some (.inl (0, (v8 + 1))))
    else (
      (fm_guestWorth s v3 v8 v5).bind fun p80 =>
      (fm_guestWorth s v3 v6 v5).bind fun p89 =>
      if p89 < p80 then (
        some (.inl (0, (v8 + 1))))
      else (
        some (.inl (1, (v8 + 1))))))
  else (
    some (.inl (v7, (v8 + 1))))
noncomputable def fm_isRest_j56 (s : mS) (v1 : Int32) (v2 : Int32) (v3 : Int32) (v4 : Int32) (v5 : Int32) (v6 : Int32) (v8 : Int32) (t0 : Int32) : Option ((Int32 × Int32) ⊕ Int32) :=
  fm_isRest_j58 s v1 v2 v3 v4 v5 v6 t0 v8
noncomputable def fm_isRest_j55 (s : mS) (v1 : Int32) (v2 : Int32) (v3 : Int32) (v4 : Int32) (v5 : Int32) (v6 : Int32) (v8 : Int32) : Option ((Int32 × Int32) ⊕ Int32) :=
  fm_isRest_j56 s v1 v2 v3 v4 v5 v6 v8 0
noncomputable def fm_isRest_b6 (s : mS) (v1 : Int32) (v2 : Int32) (v3 : Int32) (v4 : Int32) (v5 : Int32) (v6 : Int32) (q : Int32 × Int32) : Option ((Int32 × Int32) ⊕ Int32) :=
  if (s.1 46) ≤ q.2 then (
    some (.inr q.1))
  else (
    if ((v2 >>> (q.2 &&& 31)) &&& 1) = 1 then (
      if q.1 = 0 then (
        fm_isRest_j55 s v1 v2 v3 v4 v5 v6 q.2)
      else (
        (fm_guestWorth s v1 q.2 v6).bind fun p36 =>
        (fm_guestWorth s v1 v5 v6).bind fun p45 =>
        if p45 < p36 then (
          fm_isRest_j55 s v1 v2 v3 v4 v5 v6 q.2)
        else (
          fm_isRest_j56 s v1 v2 v3 v4 v5 v6 q.2 1)))
    else (
      fm_isRest_j58 s v1 v2 v3 v4 v5 v6 q.1 q.2))
noncomputable def fm_isRest (s : mS) (v1 : Int32) (v2 : Int32) (v3 : Int32) (v4 : Int32) (v5 : Int32) (v6 : Int32) : Option (Int32) :=
  (lp (fm_isRest_b6 s v1 v2 v3 v4 v5 v6) (1, 0)).bind fun q6 =>
  if q6 = 0 ∨ q6 = 1 then some q6 else none
noncomputable def fm_guests_b70 (v1 : Int32) (v2 : Int32) (v3 : Int32) (v4 : Int32) (v6 : Int32) (q : Int32 × Int32 × mS) : Option ((Int32 × Int32 × mS) ⊕ (Int32 × mS)) :=
  if (q.2.2.1 46) ≤ q.2.1 then (
    some (.inr (q.1, q.2.2)))
  else (
    if ((v3 >>> (v6 &&& 31)) &&& 1) = 0 then (
      some (.inl (q.1, (q.2.1 + 1), q.2.2)))
    else (
      if ((v4 >>> (q.2.1 &&& 31)) &&& 1) = 0 then (
        some (.inl (q.1, (q.2.1 + 1), q.2.2)))
      else (
        (fm_isRest q.2.2 v1 v3 v2 v4 v6 q.2.1).bind fun p108 =>
        if p108 = 0 then (
          some (.inl (q.1, (q.2.1 + 1), q.2.2)))
        else (
          if q.1 = 0 then (
            (sto 26 7 q.2.2 0 v6).bind fun s129 =>
            (sto 26 7 s129 1 q.2.1).bind fun s137 =>
            (pI 61 s137 2).bind fun s140 =>
            some (.inl ((q.1 + 1), (q.2.1 + 1), s140)))
          else (
            some (.inl ((q.1 + 1), (q.2.1 + 1), q.2.2)))))))
noncomputable def fm_guests_b58 (v1 : Int32) (v2 : Int32) (v3 : Int32) (v4 : Int32) (q : Int32 × Int32 × mS) : Option ((Int32 × Int32 × mS) ⊕ (Int32 × mS)) :=
  if (q.2.2.1 46) ≤ q.2.1 then (
    some (.inr (q.1, q.2.2)))
  else (
    (lp (fm_guests_b70 v1 v2 v3 v4 q.2.1) (q.1, 0, q.2.2)).bind fun q70 =>
    some (.inl (q70.1, (q.2.1 + 1), q70.2)))
noncomputable def fm_guests (s : mS) (v1 : Int32) (v2 : Int32) : Option (Int32 × mS) :=
  (pI 61 s 0).bind fun s2 =>
  (fm_isBoard s2 v1).bind fun p7 =>
  if p7 = 0 then (
    some ((-1), s2))
  else (
    (fm_isBoard s2 v2).bind fun p15 =>
    if p15 = 0 then (
      some ((-1), s2))
    else (
      if v1 = v2 then (
        some ((-1), s2))
      else (
        (fm_landingsOf s2 v1).bind fun p30 =>
        (fm_landingsOf p30.2 v2).bind fun p36 =>
        if p30.1 = 0 then (
          some ((-1), p36.2))
        else (
          if p36.1 = 0 then (
            some ((-1), p36.2))
          else (
            (lp (fm_guests_b58 v1 v2 p30.1 p36.1) (0, 0, p36.2)).bind fun q58 =>
            some (q58.1, q58.2))))))
noncomputable def fm_singe_b16 (v1 : Int32) (q : Int32 × mS) : Option ((Int32 × mS) ⊕ (mS ⊕ (Int32 × mS))) :=
  (fm_leftOf q.2 v1).bind fun p19 =>
  if p19 < q.1 then (
    some (.inr (.inl q.2)))
  else (
    (fm_goStroke q.2 v1 0 1 1).bind fun p30 =>
    (rm p30.1 2).bind fun x36 =>
    if x36 = 1 then (
      some (.inr (.inr ((-1), p30.2))))
    else (
      if p30.1 = 2 then (
        some (.inr (.inr (q.1, p30.2))))
      else (
        some (.inl ((q.1 + 1), p30.2)))))
noncomputable def fm_singe (s : mS) (v1 : Int32) : Option (Int32 × mS) :=
  (fm_isBoard s v1).bind fun p2 =>
  if p2 = 0 then (
    some ((-1), s))
  else (
    (fm_fill s).bind fun p11 =>
    (lp (fm_singe_b16 v1) (1, p11)).bind (Sum.elim (fun q16 =>
      some ((-1), q16)) (fun q16r => some q16r)))
noncomputable def fm_landsBy_b10 (v1 : Int32) (v2 : Int32) (v3 : Int32) (q : Int32 × Int32 × mS) : Option ((Int32 × Int32 × mS) ⊕ (Int32 × mS)) :=
  (fm_leftOf q.2.2 v1).bind fun p14 =>
  if p14 ≤ q.2.1 then (
    some (.inr (q.1, q.2.2)))
  else (
    if q.1 = 0 then (
      some (.inr (q.1, q.2.2)))
    else (
      (fm_goStroke q.2.2 v1 0 1 (1 + ((v3 >>> (q.2.1 &&& 31)) &&& 1))).bind fun p37 =>
      (rm p37.1 2).bind fun x41 =>
      if x41 = 0 then (
        some (.inl (1, (q.2.1 + 1), p37.2)))
      else (
        some (.inl (0, (q.2.1 + 1), p37.2)))))
noncomputable def fm_landsBy_j58 (s : mS) (v1 : Int32) (v2 : Int32) (v4 : Int32) : Option (Int32 × mS) :=
  if v4 = 0 then (
    some (0, s))
  else (
    (ld 23 28 s v1).bind fun x68 =>
    if x68 = v2 then (
      some (1, s))
    else (
      some (0, s)))
noncomputable def fm_landsBy (s : mS) (v1 : Int32) (v2 : Int32) (v3 : Int32) : Option (Int32 × mS) :=
  (fm_fill s).bind fun p1 =>
  (lp (fm_landsBy_b10 v1 v2 v3) (1, 0, p1)).bind fun q10 =>
  fm_landsBy_j58 q10.2 v1 v2 q10.1
noncomputable def fm_divisor_b4  (q : Int32 × Int32) : Option ((Int32 × Int32) ⊕ Int32) :=
  if q.2 ≤ 0 then (
    some (.inr q.1))
  else (
    (rm q.1 q.2).bind fun x10 =>
    some (.inl (q.2, x10)))
noncomputable def fm_divisor (v0 : Int32) (v1 : Int32) : Option (Int32) :=
  (lp fm_divisor_b4 (v0, v1)).bind fun q4 =>
  some q4
noncomputable def fm_odds_b55 (v1 : Int32) (v2 : Int32) (v3 : Int32) (v4 : Int32) (q : Int32 × Int32 × mS) : Option ((Int32 × Int32 × mS) ⊕ (Int32 × mS)) :=
  if (1 <<< (v4 &&& 31)) ≤ q.2.1 then (
    some (.inr (q.1, q.2.2)))
  else (
    (fm_landsBy q.2.2 v1 v2 q.2.1).bind fun p69 =>
    if p69.1 = 0 then (
      some (.inl (q.1, (q.2.1 + 1), p69.2)))
    else (
      (fm_members q.2.1).bind fun p83 =>
      (fm_power (p69.2.1 50) p83).bind fun p86 =>
      (fm_members q.2.1).bind fun p100 =>
      (fm_power (100 - (p69.2.1 50)) (v4 - p100)).bind fun p104 =>
      some (.inl ((q.1 + (p86 * p104)), (q.2.1 + 1), p69.2))))
noncomputable def fm_odds (s : mS) (v1 : Int32) (v2 : Int32) (v3 : Int32) : Option (Int32 × mS) :=
  (fm_isBoard s v1).bind fun p2 =>
  if p2 = 0 then (
    some ((-1), s))
  else (
    (fm_leftOf s v1).bind fun p10 =>
    if 4 < p10 then (
      some ((-1), s))
    else (
      (fm_isIn v2 0 ((s.1 46) - 1)).bind fun p25 =>
      if p25 = 0 then (
        some ((-1), s))
      else (
        (fm_isIn v3 0 1).bind fun p34 =>
        if p34 = 0 then (
          some ((-1), s))
        else (
          (fm_leftOf s v1).bind fun p44 =>
          (lp (fm_odds_b55 v1 v2 v3 p44) (0, 0, s)).bind fun q55 =>
          (fm_power 100 p44).bind fun p121 =>
          (fm_divisor p121 q55.1).bind fun p130 =>
          if v3 = 0 then (
            (dv q55.1 p130).bind fun x143 =>
            some (x143, q55.2))
          else (
            (dv p121 p130).bind fun x151 =>
            some (x151, q55.2))))))
noncomputable def fm_over (s : mS) : Option (Int32 × mS) :=
  (fm_fill s).bind fun p1 =>
  (fm_loadsAt p1 (-2)).bind fun p7 =>
  some (p7, p1)
noncomputable def fm_left (s : mS) : Option (Int32 × mS) :=
  (fm_fill s).bind fun p1 =>
  (fm_loadsAt p1 (-2)).bind fun p16 =>
  (fm_wideOf p1 (((1 <<< ((p1.1 49) &&& 31)) - 1) &&& (p16 ^^^ (-1)))).bind fun p22 =>
  some (p22, p1)
noncomputable def fm_pulled_j39 (s : mS) (v2 : Int32) (t0 : Int32) (t1 : Int32) : Option ((Int32 × Int32) ⊕ Int32) :=
  (fm_truth t1).bind fun p39 =>
  some (.inl ((t0 ||| (p39 <<< (v2 &&& 31))), (v2 + 1)))
noncomputable def fm_pulled_b4 (s : mS) (q : Int32 × Int32) : Option ((Int32 × Int32) ⊕ Int32) :=
  if (s.1 48) ≤ q.2 then (
    some (.inr q.1))
  else (
    (ld 22 28 s q.2).bind fun x19 =>
    (ld 22 28 s (4 + q.2)).bind fun x27 =>
    (fm_currentAt s x19 x27).bind fun p28 =>
    if p28 ≤ 0 then (
      fm_pulled_j39 s q.2 q.1 0)
    else (
      fm_pulled_j39 s q.2 q.1 1))
noncomputable def fm_pulled (s : mS) : Option (Int32) :=
  (lp (fm_pulled_b4 s) (0, 0)).bind fun q4 =>
  some q4
noncomputable def fm_hottest_b4 (s : mS) (q : Int32 × Int32) : Option ((Int32 × Int32) ⊕ Int32) :=
  if (s.1 48) ≤ q.2 then (
    some (.inr q.1))
  else (
    if q.1 < 0 then (
      some (.inl (q.2, (q.2 + 1))))
    else (
      (ld 20 4 s q.2).bind fun x21 =>
      (ld 22 28 s (8 + q.2)).bind fun x30 =>
      (ld 20 4 s q.1).bind fun x37 =>
      (ld 22 28 s (8 + q.1)).bind fun x46 =>
      if (x37 - x46) ≤ (x21 - x30) then (
        some (.inl (q.1, (q.2 + 1))))
      else (
        some (.inl (q.2, (q.2 + 1))))))
noncomputable def fm_hottest (s : mS) : Option (Int32) :=
  (lp (fm_hottest_b4 s) ((-1), 0)).bind fun q4 =>
  some q4
noncomputable def fm_law_b22 (s : mS) (v1 : Int32) (v2 : Int32) (q : Int32 × Int32) : Option ((Int32 × Int32) ⊕ Int32) :=
  if (s.1 49) ≤ q.2 then (
    some (.inr q.1))
  else (
    if ((v2 >>> (q.2 &&& 31)) &&& 1) = 1 then (
      (ld 21 7 s q.2).bind fun x48 =>
      if v1 < x48 then (
        (fm_truth 0).bind fun p58 =>
        some (.inl ((q.1 + p58), (q.2 + 1))))
      else (
        (fm_truth 1).bind fun p58 =>
        some (.inl ((q.1 + p58), (q.2 + 1)))))
    else (
      (fm_truth 0).bind fun p58 =>
      some (.inl ((q.1 + p58), (q.2 + 1)))))
noncomputable def fm_law (s : mS) (v1 : Int32) : Option (Int32 × mS) :=
  (fm_isIn v1 0 99).bind fun p4 =>
  if p4 = 0 then (
    some ((-1), s))
  else (
    (fm_nearLoads s).bind fun p13 =>
    (lp (fm_law_b22 p13.2 v1 p13.1) (0, 0)).bind fun q22 =>
    some (q22, p13.2))
noncomputable def fm_lies (s : mS) (v1 : Int32) : Option (Int32) :=
  (fm_isIn v1 0 ((s.1 61) - 1)).bind fun p8 =>
  if p8 = 0 then (
    some (-2))
  else (
    (ld 26 7 s v1).bind fun x19 =>
    some x19)
noncomputable def fm_see (s : mS) (v1 : Int32) (v2 : Int32) (v3 : Int32) (v4 : Int32) : Option (Int32 × mS) :=
  if (s.1 48) = 0 then (
    some ((-1), s))
  else (
    (fm_isIn v2 1 (s.1 47)).bind fun p13 =>
    if p13 = 0 then (
      some ((-1), s))
    else (
      if (s.1 75) = 30 then (
        some ((-1), s))
      else (
        (sto 34 30 s (s.1 75) v1).bind fun s39 =>
        (sto 35 30 s39 (s39.1 75) v2).bind fun s49 =>
        (sto 36 30 s49 (s49.1 75) v3).bind fun s59 =>
        (stb 39 30 s59 (s59.1 75) v4).bind fun s70 =>
        (sto 37 30 s70 (s70.1 75) (s70.1 76)).bind fun s83 =>
        (sto 38 30 s83 (s83.1 75) (-1)).bind fun s93 =>
        (pI 75 s93 ((s93.1 75) + 1)).bind fun s101 =>
        some (((s101.1 75) - 1), s101))))
noncomputable def fm_passed (s : mS) (v1 : Int32) (v2 : Int32) (v3 : Int32) : Option (Int32 × mS) :=
  (fm_isIn v2 0 7).bind fun p4 =>
  if p4 = 0 then (
    some ((-1), s))
  else (
    (fm_see s 0 v1 v2 v3).bind fun p15 =>
    some (p15.1, p15.2))
noncomputable def fm_felt (s : mS) (v1 : Int32) (v2 : Int32) (v3 : Int32) : Option (Int32 × mS) :=
  (fm_isIn v2 0 99).bind fun p4 =>
  if p4 = 0 then (
    some ((-1), s))
  else (
    (fm_see s 1 v1 v2 v3).bind fun p15 =>
    some (p15.1, p15.2))
noncomputable def fm_untell (s : mS) (v1 : Int32) : Option (Int32 × mS) :=
  (fm_isIn v1 0 ((s.1 75) - 1)).bind fun p8 =>
  if p8 = 0 then (
    some (0, s))
  else (
    (ld 38 30 s v1).bind fun x19 =>
    if x19 < 0 then (
      (sto 38 30 s v1 (s.1 76)).bind fun s34 =>
      some (1, s34))
    else (
      some (0, s)))
noncomputable def fm_later (s : mS) (v1 : Int32) : Option (Int32 × mS) :=
  if v1 < 0 then (
    some ((-1), s))
  else (
    if 1000 < v1 then (
      some ((-1), s))
    else (
      if ((s.1 76) + v1) ≤ 100000 then (
        (pI 76 s ((s.1 76) + v1)).bind fun s32 =>
        some ((s32.1 76), s32))
      else (
        some ((-1), s))))
noncomputable def fm_isSo_j33 (s : mS) (v1 : Int32) (t0 : Int32) : Option (Int32) :=
  (ld 36 30 s v1).bind fun x38 =>
  if t0 < x38 then (
    some 0)
  else (
    some 1)
noncomputable def fm_isSo (s : mS) (v1 : Int32) : Option (Int32) :=
  (ld 35 30 s v1).bind fun x5 =>
  (ld 34 30 s v1).bind fun x14 =>
  if x14 = 0 then (
    (ld 40 6 s (x5 - 1)).bind fun x23 =>
    fm_isSo_j33 s v1 x23)
  else (
    (ld 41 6 s (x5 - 1)).bind fun x32 =>
    fm_isSo_j33 s v1 x32)
noncomputable def fm_layFits_b4 (v1 : Int32) (v2 : Int32) (q : Int32 × mS) : Option ((Int32 × mS) ⊕ mS) :=
  if 18 ≤ q.1 then (
    some (.inr q.2))
  else (
    (sto 42 18 q.2 q.1 0).bind fun s16 =>
    some (.inl ((q.1 + 1), s16)))
noncomputable def fm_layFits_b47 (v1 : Int32) (v2 : Int32) (v3 : Int32) (q : Int32 × mS) : Option ((Int32 × mS) ⊕ mS) :=
  if 28 ≤ q.1 then (
    some (.inr q.2))
  else (
    (sto 23 28 q.2 q.1 0).bind fun s61 =>
    some (.inl ((q.1 + 1), s61)))
noncomputable def fm_layFits_b71 (v1 : Int32) (v2 : Int32) (v3 : Int32) (q : Int32 × mS) : Option ((Int32 × mS) ⊕ mS) :=
  if (q.2.1 49) ≤ q.1 then (
    some (.inr q.2))
  else (
    (sto 23 28 q.2 (20 + q.1) (-1)).bind fun s90 =>
    some (.inl ((q.1 + 1), s90)))
noncomputable def fm_layFits_b115 (v1 : Int32) (v2 : Int32) (v3 : Int32) (q : Int32 × Int32 × mS) : Option ((Int32 × Int32 × mS) ⊕ mS) :=
  if (q.2.2.1 47) ≤ q.2.1 then (
    some (.inr q.2.2))
  else (
    (rm q.1 3).bind fun x133 =>
    (sto 25 6 q.2.2 q.2.1 (x133 - 1)).bind fun s136 =>
    (dv q.1 3).bind fun x140 =>
    (ld 25 6 s136 q.2.1).bind fun x151 =>
    (fm_goStroke s136 0 x151 1 1).bind fun p154 =>
    (ld 23 28 p154.2 0).bind fun x169 =>
    (sto 40 6 p154.2 q.2.1 x169).bind fun s170 =>
    (ld 23 28 s170 8).bind fun x183 =>
    (sto 41 6 s170 q.2.1 x183).bind fun s184 =>
    some (.inl (x140, (q.2.1 + 1), s184)))
noncomputable def fm_layFits_j243 (s : mS) (v1 : Int32) (v2 : Int32) (v3 : Int32) (v6 : Int32) : Option ((Int32 × Int32) ⊕ Int32) :=
  (fm_isSo s v6).bind fun p246 =>
  (ld 39 30 s v6).bind fun x255 =>
  if p246 = x255 then (
    some (.inl (1, (v6 + 1))))
  else (
    some (.inl (0, (v6 + 1))))
noncomputable def fm_layFits_b197 (s : mS) (v1 : Int32) (v2 : Int32) (v3 : Int32) (q : Int32 × Int32) : Option ((Int32 × Int32) ⊕ Int32) :=
  if (s.1 75) ≤ q.2 then (
    some (.inr q.1))
  else (
    if q.1 = 0 then (
      some (.inr q.1))
    else (
      (ld 37 30 s q.2).bind fun x217 =>
      if v1 < x217 then (
        some (.inl (1, (q.2 + 1))))
      else (
        (ld 38 30 s q.2).bind fun x228 =>
        if x228 < 0 then (
          fm_layFits_j243 s v1 v2 v3 q.2)
        else (
          (ld 38 30 s q.2).bind fun x238 =>
          if x238 ≤ v1 then (
            some (.inl (1, (q.2 + 1))))
          else (
            fm_layFits_j243 s v1 v2 v3 q.2)))))
noncomputable def fm_layFits_b286 (v1 : Int32) (v2 : Int32) (v3 : Int32) (q : Int32 × mS) : Option ((Int32 × mS) ⊕ mS) :=
  if (q.2.1 47) ≤ q.1 then (
    some (.inr q.2))
  else (
    (ld 25 6 q.2 q.1).bind fun x309 =>
    (ld 42 18 q.2 (((3 * q.1) + x309) + 1)).bind fun x314 =>
    (sto 42 18 q.2 (((3 * q.1) + x309) + 1) (x314 + 1)).bind fun s317 =>
    some (.inl ((q.1 + 1), s317)))
noncomputable def fm_layFits_j272 (s : mS) (v1 : Int32) (v2 : Int32) (v3 : Int32) (v5 : Int32) : Option ((Int32 × Int32 × mS) ⊕ (Int32 × mS)) :=
  if v5 = 0 then (
    some (.inl (v2, (v3 + 1), s)))
  else (
    (lp (fm_layFits_b286 v1 (v2 + 1) v3) (0, s)).bind fun q286 =>
    some (.inl ((v2 + 1), (v3 + 1), q286)))
noncomputable def fm_layFits_b25 (v1 : Int32) (q : Int32 × Int32 × mS) : Option ((Int32 × Int32 × mS) ⊕ (Int32 × mS)) :=
  (fm_power 3 (q.2.2.1 47)).bind fun p31 =>
  if p31 ≤ q.2.1 then (
    some (.inr (q.1, q.2.2)))
  else (
    if (q.2.2.1 48) ≤ 0 then (
      some (.inr (q.1, q.2.2)))
    else (
      (lp (fm_layFits_b47 v1 q.1 q.2.1) (0, q.2.2)).bind fun q47 =>
      (lp (fm_layFits_b71 v1 q.1 q.2.1) (0, q47)).bind fun q71 =>
      (ld 19 4 q71 0).bind fun x107 =>
      (sto 23 28 q71 0 x107).bind fun s108 =>
      (lp (fm_layFits_b115 v1 q.1 q.2.1) (q.2.1, 0, s108)).bind fun q115 =>
      (lp (fm_layFits_b197 q115 v1 q.1 q.2.1) (1, 0)).bind fun q197 =>
      fm_layFits_j272 q115 v1 q.1 q.2.1 q197))
noncomputable def fm_layFits (s : mS) (v1 : Int32) : Option (Int32 × mS) :=
  (lp (fm_layFits_b4 v1 0) (0, s)).bind fun q4 =>
  (lp (fm_layFits_b25 v1) (0, 0, q4)).bind fun q25 =>
  some (q25.1, q25.2)
noncomputable def fm_fits (s : mS) (v1 : Int32) : Option (Int32 × mS) :=
  (fm_layFits s v1).bind fun p2 =>
  some (p2.1, p2.2)
noncomputable def fm_sure_b35 (s : mS) (v1 : Int32) (v3 : Int32) (q : Int32 × Int32) : Option ((Int32 × Int32) ⊕ Int32) :=
  if 1 < q.2 then (
    some (.inr q.1))
  else (
    (ld 42 18 s (((3 * (v1 - 1)) + q.2) + 1)).bind fun x55 =>
    if x55 = v3 then (
      some (.inl (q.2, (q.2 + 1))))
    else (
      some (.inl (q.1, (q.2 + 1)))))
noncomputable def fm_sure (s : mS) (v1 : Int32) (v2 : Int32) : Option (Int32 × mS) :=
  (fm_isIn v1 1 (s.1 47)).bind fun p6 =>
  if p6 = 0 then (
    some ((-3), s))
  else (
    (fm_layFits s v2).bind fun p17 =>
    if p17.1 = 0 then (
      some ((-3), p17.2))
    else (
      (lp (fm_sure_b35 p17.2 v1 p17.1) ((-2), (-1))).bind fun q35 =>
      some (q35, p17.2)))
noncomputable def fm_leftBy_b4 (s : mS) (v1 : Int32) (q : Int32 × Int32) : Option ((Int32 × Int32) ⊕ Int32) :=
  if 3 ≤ q.2 then (
    some (.inr q.1))
  else (
    (ld 42 18 s ((3 * v1) + q.2)).bind fun x18 =>
    if x18 ≤ q.1 then (
      some (.inl (q.1, (q.2 + 1))))
    else (
      (ld 42 18 s ((3 * v1) + q.2)).bind fun x32 =>
      some (.inl (x32, (q.2 + 1)))))
noncomputable def fm_leftBy (s : mS) (v1 : Int32) : Option (Int32) :=
  (lp (fm_leftBy_b4 s v1) (0, 0)).bind fun q4 =>
  some q4
noncomputable def fm_ask_b24 (s : mS) (v1 : Int32) (q : Int32 × Int32) : Option ((Int32 × Int32) ⊕ Int32) :=
  if (s.1 47) ≤ q.2 then (
    some (.inr q.1))
  else (
    (fm_leftBy s q.2).bind fun p36 =>
    (fm_leftBy s q.1).bind fun p41 =>
    if p41 ≤ p36 then (
      some (.inl (q.1, (q.2 + 1))))
    else (
      some (.inl (q.2, (q.2 + 1)))))
noncomputable def fm_ask (s : mS) (v1 : Int32) (v2 : Int32) : Option (Int32 × mS) :=
  (fm_isIn v1 0 1).bind fun p3 =>
  if p3 = 0 then (
    some ((-1), s))
  else (
    (fm_layFits s v2).bind fun p11 =>
    if p11.1 = 0 then (
      some ((-1), p11.2))
    else (
      (lp (fm_ask_b24 p11.2 v1) (0, 1)).bind fun q24 =>
      if v1 = 0 then (
        some ((q24 + 1), p11.2))
      else (
        (fm_leftBy p11.2 q24).bind fun p72 =>
        some (p72, p11.2))))
noncomputable def fm_isBox (v0 : Int32) : Option (Int32) :=
  if v0 < 0 then (
    some 0)
  else (
    if 3 ≤ v0 then (
      some 0)
    else (
      some 1))
noncomputable def fm_image_b18 (v1 : Int32) (q : Int32 × mS) : Option ((Int32 × mS) ⊕ mS) :=
  if 28 ≤ q.1 then (
    some (.inr q.2))
  else (
    (ld 22 28 q.2 q.1).bind fun x39 =>
    (sto 44 84 q.2 ((28 * v1) + q.1) x39).bind fun s40 =>
    some (.inl ((q.1 + 1), s40)))
noncomputable def fm_image (s : mS) (v1 : Int32) : Option (Int32 × mS) :=
  (fm_isBox v1).bind fun p1 =>
  if p1 = 0 then (
    some ((-1), s))
  else (
    (stb 43 3 s v1 1).bind fun s15 =>
    (lp (fm_image_b18 v1) (0, s15)).bind fun q18 =>
    (fm_over q18).bind fun p48 =>
    (fm_members p48.1).bind fun p51 =>
    some (p51, p48.2))
noncomputable def fm_back_b20 (v1 : Int32) (q : Int32 × mS) : Option ((Int32 × mS) ⊕ mS) :=
  if 28 ≤ q.1 then (
    some (.inr q.2))
  else (
    (ld 44 84 q.2 ((28 * v1) + q.1)).bind fun x41 =>
    (sto 22 28 q.2 q.1 x41).bind fun s42 =>
    some (.inl ((q.1 + 1), s42)))
noncomputable def fm_back (s : mS) (v1 : Int32) : Option (Int32 × mS) :=
  (fm_isBox v1).bind fun p1 =>
  if p1 = 0 then (
    some ((-1), s))
  else (
    (ld 43 3 s v1).bind fun x12 =>
    if x12 = 0 then (
      some ((-1), s))
    else (
      (lp (fm_back_b20 v1) (0, s)).bind fun q20 =>
      (pI 57 q20 0).bind fun s51 =>
      (pI 58 s51 0).bind fun s56 =>
      (fm_over s56).bind fun p60 =>
      (fm_members p60.1).bind fun p63 =>
      some (p63, p60.2)))
noncomputable def fm_about (s : mS) (v1 : Int32) : Option (Int32) :=
  if v1 = 0 then (
    some (s.1 48))
  else if v1 = 1 then (
    some (s.1 49))
  else if v1 = 2 then (
    some (s.1 46))
  else if v1 = 3 then (
    some (s.1 47))
  else if v1 = 4 then (
    some (s.1 50))
  else if v1 = 5 then (
    (ld 22 28 s 27).bind fun x99 =>
    some x99)
  else if v1 = 6 then (
    some (s.1 57))
  else if v1 = 7 then (
    some (s.1 58))
  else if v1 = 8 then (
    some (s.1 75))
  else if v1 = 9 then (
    some (s.1 76))
  else if v1 = 10 then (
    some (s.1 1))
  else if v1 = 11 then (
    some (s.1 21))
  else if v1 = 12 then (
    some (s.1 61))
  else (
    some (-1))

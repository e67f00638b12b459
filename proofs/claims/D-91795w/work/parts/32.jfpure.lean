set_option maxRecDepth 100000
noncomputable def jk_begins_L2 (F : Nat) (r2 : Int32 × jf_S → Option (jf_S)) (x1 : Int32) (S : jf_S) : Option (jf_S) :=
  if (nI 16) ≤ x1 then
    jx_nx (jf_setI S 5 8 (nI 0)) fun S2 =>
      jx_nx (jf_setI S2 5 9 (nI 0)) fun S3 =>
        jx_nx (jf_setI S3 5 10 (nI 0)) fun S4 =>
          jx_nx (jf_setI S4 5 11 (nI 0)) fun S5 =>
            jx_nx (jf_setI S5 5 12 (nI 0)) fun S6 =>
              jx_nx (jf_setI S6 5 13 (nI 0)) fun S7 =>
                jx_nx (jf_setI S7 5 14 (nI 4)) fun S8 =>
                  jx_nx (jf_setI S8 5 15 (-1 : Int32)) fun S9 =>
                    jx_nx (jf_setI S9 5 16 (-1 : Int32)) fun S10 =>
                      jx_nx (jf_setI S10 5 17 (-1 : Int32)) fun S11 =>
                        some S11
  else
    jx_ga x1 16 fun j12 => jx_nx (jf_setA S 5 1 (upd (S.2.2.1 5 1) j12 (nI 0))) fun S13 =>
      jx_ga x1 16 fun j14 => jx_nx (jf_setA S13 5 2 (upd (S13.2.2.1 5 2) j14 (-1 : Int32))) fun S15 =>
        jx_nx (x1 + nI 1) fun y16 =>
          r2 (y16, S15)
noncomputable def jk_begins_h2 (F : Nat) : Nat → Int32 × jf_S → Option (jf_S) := jx_loop fun r (a : Int32 × jf_S) => jk_begins_L2 F r a.1 a.2
noncomputable def jk_begins (F : Nat)  (S : jf_S) : Option (jf_S) :=
  jx_nx (nI 0) fun y1 =>
    jk_begins_h2 F F (y1, S)
noncomputable def jk_bends_b126 (F : Nat) (r2 : Int32 × jf_S → Option (jf_S)) (x1 : Int32) (S : jf_S) : Option (jf_S) :=
  jx_nx (x1 + nI 1) fun y1 =>
    r2 (y1, S)
noncomputable def jk_bends_L2 (F : Nat) (r2 : Int32 × jf_S → Option (jf_S)) (x1 : Int32) (S : jf_S) : Option (jf_S) :=
  if (S.1 3 16) ≤ x1 then
    some S
  else
    jx_ga x1 8 fun j2 =>
      if (S.2.2.1 3 5 j2) = (S.1 5 10) then
        jx_ga x1 8 fun j4 =>
          if (nI 16) ≤ (S.2.2.1 3 6 j4) then
            if (S.1 5 8) ≤ 0 then
              jk_bends_b126 F r2 x1 S
            else
              jx_ga x1 8 fun j7 =>
                jx_ga ((S.1 5 8) - (nI 1)) 8 fun j8 => jx_nx (jf_setA S 5 3 (upd (S.2.2.1 5 3) j8 (S.2.2.1 3 7 j7))) fun S9 =>
                  jx_ga ((S9.1 5 8) - (nI 1)) 8 fun j10 => jx_nx (jf_setA S9 5 5 (upd (S9.2.2.1 5 5) j10 x1)) fun S11 =>
                    jk_bends_b126 F r2 x1 S11
          else
            jx_ga x1 8 fun j12 =>
              jx_ga x1 8 fun j13 =>
                jx_ga (S.2.2.1 3 6 j12) 16 fun j14 => jx_nx (jf_setA S 5 1 (upd (S.2.2.1 5 1) j14 (S.2.2.1 3 7 j13))) fun S15 =>
                  jx_ga x1 8 fun j16 =>
                    jx_ga (S15.2.2.1 3 6 j16) 16 fun j17 => jx_nx (jf_setA S15 5 2 (upd (S15.2.2.1 5 2) j17 x1)) fun S18 =>
                      jk_bends_b126 F r2 x1 S18
      else
        jk_bends_b126 F r2 x1 S
noncomputable def jk_bends_h2 (F : Nat) : Nat → Int32 × jf_S → Option (jf_S) := jx_loop fun r (a : Int32 × jf_S) => jk_bends_L2 F r a.1 a.2
noncomputable def jk_bends (F : Nat)  (S : jf_S) : Option (jf_S) :=
  jx_nx (nI 0) fun y1 =>
    jk_bends_h2 F F (y1, S)
noncomputable def jk_trap (F : Nat)  (S : jf_S) : Option (Int32 × jf_S) :=
  jx_nx (jf_setI S 5 14 (nI 3)) fun S1 =>
    some (S1.1 5 9, S1)
noncomputable def ja_of (F : Nat) (x0 : Int32) (S : jf_S) : Option (Int32 × jf_S) :=
  if (jo_ac x0) = (-1 : Int32) then
    some (jo_an x0, S)
  else
    jx_ga (jo_ac x0) 16 fun j4 =>
      some (S.2.2.1 5 1 j4, S)
noncomputable def jk_writes (F : Nat) (x1 : Int32) (x2 : Int32) (S : jf_S) : Option (jf_S) :=
  jx_ga x1 16 fun j1 => jx_nx (jf_setA S 5 1 (upd (S.2.2.1 5 1) j1 x2)) fun S2 =>
    jx_ga x1 16 fun j3 => jx_nx (jf_setA S2 5 2 (upd (S2.2.2.1 5 2) j3 (-1 : Int32))) fun S4 =>
      some S4
noncomputable def jo9_does_b68 (F : Nat) (x0 : jo_R) (x2 : Int32) (k0 : Int64) (S : jf_S) : Option (Int32 × jf_S) :=
  if (lg_cmp (if 0 < k0 then k0 else -k0) (99999 : Int64)) ≤ 0 then
    (jk_writes F (x0 5) k0.toInt32 S).bind fun q3 =>
      some (x2 + (nI 1), q3)
  else
    (jk_trap F S).bind fun q4 =>
      some (q4.1, q4.2)
noncomputable def jo9_does_b30 (F : Nat) (x0 : jo_R) (x2 : Int32) (x3 : Int64) (k0 : Int64) (S : jf_S) : Option (Int32 × jf_S) :=
  if (x0 8) = (nI 45) then
    jo9_does_b68 F x0 x2 (x3 - k0) S
  else
    if (x0 8) = (nI 42) then
      jo9_does_b68 F x0 x2 (x3 * k0) S
    else
      jo9_does_b68 F x0 x2 (x3 + k0) S
noncomputable def jo9_does (F : Nat) (x0 : jo_R) (x2 : Int32) (S : jf_S) : Option (Int32 × jf_S) :=
  (ja_of F (x0 6) S).bind fun q2 =>
    jx_nx (q2.1.toInt64) fun y4 =>
      if (x0 8) = 0 then
        jo9_does_b30 F x0 x2 y4 (lN 0) q2.2
      else
        jx_gn (x0 8) <|
          (ja_of F (x0 7) q2.2).bind fun q8 =>
            jo9_does_b30 F x0 x2 y4 q8.1.toInt64 q8.2
noncomputable def jo10_does (F : Nat) (x0 : jo_R) (x2 : Int32) (S : jf_S) : Option (Int32 × jf_S) :=
  (jk_writes F (x0 5) (x0 4) S).bind fun q3 =>
    some (x2 + (nI 1), q3)
noncomputable def jo11_does (F : Nat) (x0 : jo_R) (x2 : Int32) (S : jf_S) : Option (Int32 × jf_S) :=
  some (x0 4, S)
noncomputable def jo12_does (F : Nat) (x0 : jo_R) (x2 : Int32) (S : jf_S) : Option (Int32 × jf_S) :=
  (ja_of F (x0 6) S).bind fun q2 =>
    (ja_of F (x0 7) q2.2).bind fun q6 =>
      (jf_ifHolds q2.1 (x0 8) q6.1).bind fun q8 =>
        if q8 = 0 then
          some (x2 + (nI 1), q6.2)
        else
          some (x0 4, q6.2)
noncomputable def jo9_word (F : Nat) (x0 : jo_R) (S : jf_S) : Option (Int32 × jf_S) :=
  some (nI 0, S)
noncomputable def jo10_word (F : Nat) (x0 : jo_R) (S : jf_S) : Option (Int32 × jf_S) :=
  some (nI 1, S)
noncomputable def jo11_word (F : Nat) (x0 : jo_R) (S : jf_S) : Option (Int32 × jf_S) :=
  some (nI 2, S)
noncomputable def jo12_word (F : Nat) (x0 : jo_R) (S : jf_S) : Option (Int32 × jf_S) :=
  some (nI 3, S)
noncomputable def jo13_word (F : Nat) (x0 : jo_R) (S : jf_S) : Option (Int32 × jf_S) :=
  some (nI 4, S)
noncomputable def jo14_word (F : Nat) (x0 : jo_R) (S : jf_S) : Option (Int32 × jf_S) :=
  some (nI 5, S)
noncomputable def jo15_word (F : Nat) (x0 : jo_R) (S : jf_S) : Option (Int32 × jf_S) :=
  some (nI 6, S)
noncomputable def jo16_word (F : Nat) (x0 : jo_R) (S : jf_S) : Option (Int32 × jf_S) :=
  some (nI 7, S)
noncomputable def jo17_word (F : Nat) (x0 : jo_R) (S : jf_S) : Option (Int32 × jf_S) :=
  some (nI 8, S)
noncomputable def jo18_word (F : Nat) (x0 : jo_R) (S : jf_S) : Option (Int32 × jf_S) :=
  some (nI 9, S)
noncomputable def jv_word (F : Nat) (r : jo_R)  (S : jf_S) : Option (Int32 × jf_S) :=
  if r 0 = nI 0 then jo9_word F r  S else
  if r 0 = nI 1 then jo10_word F r  S else
  if r 0 = nI 2 then jo11_word F r  S else
  if r 0 = nI 3 then jo12_word F r  S else
  if r 0 = nI 4 then jo13_word F r  S else
  if r 0 = nI 5 then jo14_word F r  S else
  if r 0 = nI 6 then jo15_word F r  S else
  if r 0 = nI 7 then jo16_word F r  S else
  if r 0 = nI 8 then jo17_word F r  S else
  if r 0 = nI 9 then jo18_word F r  S else
  none
noncomputable def jp_all (F : Nat) (o : Nat)  (S : jf_S) : Option (Int64 × jf_S) :=
  some (((lN 1) <<< ((S.1 o 13).toInt64 &&& 63)) - (lN 1), S)
noncomputable def jp_lets (F : Nat) (o : Nat) (x1 : Int32) (x2 : Int32) (S : jf_S) : Option (Int64 × jf_S) :=
  if x2 = 0 then
    (jp_all F o S).bind fun q5 =>
      some (q5.1, q5.2)
  else
    if x2 = (nI 1) then
      jx_ga x1 40 fun j4 =>
        some (S.2.2.2.1 o 10 j4, S)
    else
      jx_ga x1 40 fun j3 =>
        some (S.2.2.2.1 o 11 j3, S)
noncomputable def jk_isLet_b73 (F : Nat) (x1 : Int32) (x2 : Int32) (x3 : Int32) (S : jf_S) : Option (Int32 × jf_S) :=
  if x2 < 0 then
    some (nI 0, S)
  else
    if (S.1 3 13) ≤ x2 then
      some (nI 0, S)
    else
      (jp_lets F 3 x1 x3 S).bind fun q3 =>
        if (lg_cmp ((q3.1 >>> (x2.toInt64 &&& 63)) &&& (lN 1)) (lN 1)) = 0 then
          some (nI 1, q3.2)
        else
          some (nI 0, q3.2)
noncomputable def jk_isLet_b38 (F : Nat) (x1 : Int32) (x2 : Int32) (x3 : Int32) (k0 : Int32) (S : jf_S) : Option (Int32 × jf_S) :=
  if k0 = 0 then
    jk_isLet_b73 F x1 x2 x3 S
  else
    if x3 = (nI 3) then
      jx_ga ((S.1 5 8) - (nI 1)) 8 fun j3 =>
        if x2 = (S.2.2.1 5 4 j3) then
          some (nI 1, S)
        else
          some (nI 0, S)
    else
      jk_isLet_b73 F x1 x2 x3 S
noncomputable def jk_isLet (F : Nat) (x1 : Int32) (x2 : Int32) (S : jf_S) : Option (Int32 × jf_S) :=
  jx_ga x1 40 fun j1 =>
    jx_nx (S.2.2.1 3 1 j1) fun y2 =>
      if y2 = 0 then
        some (nI 1, S)
      else
        jx_ga x1 40 fun j4 => (S.2.2.2.2 3 j4).bind fun r5 =>
          (jv_word F r5 S).bind fun q6 =>
            if q6.1 = (nI 7) then
              jk_isLet_b38 F x1 x2 y2 (nI 1) q6.2
            else
              jk_isLet_b38 F x1 x2 y2 (nI 0) q6.2
noncomputable def jo8_cell (F : Nat) (x0 : jo_R) (S : jf_S) : Option (Int32 × jf_S) :=
  some ((-1 : Int32), S)
noncomputable def jo13_cell (F : Nat) (x0 : jo_R) (S : jf_S) : Option (Int32 × jf_S) :=
  some (x0 5, S)
noncomputable def jv_cell (F : Nat) (r : jo_R)  (S : jf_S) : Option (Int32 × jf_S) :=
  if r 0 = nI 0 then jo8_cell F r  S else
  if r 0 = nI 1 then jo8_cell F r  S else
  if r 0 = nI 2 then jo8_cell F r  S else
  if r 0 = nI 3 then jo8_cell F r  S else
  if r 0 = nI 4 then jo13_cell F r  S else
  if r 0 = nI 5 then jo8_cell F r  S else
  if r 0 = nI 6 then jo13_cell F r  S else
  if r 0 = nI 7 then jo8_cell F r  S else
  if r 0 = nI 8 then jo8_cell F r  S else
  if r 0 = nI 9 then jo8_cell F r  S else
  none
noncomputable def jk_lands_b96 (F : Nat) (x1 : Int32) (x2 : Int32) (S : jf_S) : Option (Int32 × jf_S) :=
  jx_nx (jf_setI S 5 13 ((S.1 5 13) + (nI 1))) fun S1 =>
    jx_ga x1 40 fun j2 =>
      jx_ga (S1.2.2.1 3 1 j2) 4 fun j3 =>
        jx_nx (jf_setI S1 5 11 ((S1.1 5 11) + (S1.2.2.1 3 2 j3))) fun S4 =>
          some (x2, S4)
noncomputable def jk_lands (F : Nat) (x1 : Int32) (x2 : Int32) (S : jf_S) : Option (Int32 × jf_S) :=
  (jk_isLet F x1 x2 S).bind fun q1 =>
    if q1.1 = 0 then
      if (q1.2.1 5 18) = 0 then
        if (q1.2.1 5 17) = (-1 : Int32) then
          jx_nx (jf_setI q1.2 5 17 (q1.2.1 5 13)) fun S5 =>
            jk_lands_b96 F x1 x2 S5
        else
          jk_lands_b96 F x1 x2 q1.2
      else
        jx_nx (jf_setI q1.2 5 14 (nI 1)) fun S6 =>
          jx_nx (jf_setI S6 5 16 x2) fun S7 =>
            jx_ga x1 40 fun j8 => (S7.2.2.2.2 3 j8).bind fun r9 =>
              (jv_word F r9 S7).bind fun q10 =>
                if q10.1 = (nI 7) then
                  jx_ga ((q10.2.1 5 8) - (nI 1)) 8 fun j17 =>
                    jx_nx (jf_setI q10.2 5 15 (q10.2.2.2.1 5 5 j17)) fun S18 =>
                      some (x1, S18)
                else
                  jx_ga x1 40 fun j12 => (q10.2.2.2.2.2 3 j12).bind fun r13 =>
                    (jv_cell F r13 q10.2).bind fun q14 =>
                      jx_ga q14.1 16 fun j15 =>
                        jx_nx (jf_setI q14.2 5 15 (q14.2.2.2.1 5 2 j15)) fun S16 =>
                          some (x1, S16)
    else
      jk_lands_b96 F x1 x2 q1.2
noncomputable def jo13_does (F : Nat) (x0 : jo_R) (x2 : Int32) (S : jf_S) : Option (Int32 × jf_S) :=
  jx_ga (x0 5) 16 fun j1 =>
    (jk_lands F x2 (S.2.2.1 5 1 j1) S).bind fun q2 =>
      some (q2.1, q2.2)
noncomputable def jk_puts (F : Nat) (x1 : Int32) (S : jf_S) : Option (jf_S) :=
  jx_ga (S.1 5 8) 8 fun j1 => jx_nx (jf_setA S 5 3 (upd (S.2.2.1 5 3) j1 x1)) fun S2 =>
    jx_ga (S2.1 5 8) 8 fun j3 => jx_nx (jf_setA S2 5 4 (upd (S2.2.2.1 5 4) j3 x1)) fun S4 =>
      jx_ga (S4.1 5 8) 8 fun j5 => jx_nx (jf_setA S4 5 5 (upd (S4.2.2.1 5 5) j5 (-1 : Int32))) fun S6 =>
        jx_nx (jf_setI S6 5 8 ((S6.1 5 8) + (nI 1))) fun S7 =>
          some S7
noncomputable def jo14_does (F : Nat) (x0 : jo_R) (x2 : Int32) (S : jf_S) : Option (Int32 × jf_S) :=
  if (S.1 5 8) = (nI 8) then
    (jk_trap F S).bind fun q4 =>
      some (q4.1, q4.2)
  else
    (jk_puts F (x2 + (nI 1)) S).bind fun q2 =>
      some (x0 4, q2)
noncomputable def jo15_does (F : Nat) (x0 : jo_R) (x2 : Int32) (S : jf_S) : Option (Int32 × jf_S) :=
  if (S.1 5 8) = (nI 8) then
    (jk_trap F S).bind fun q6 =>
      some (q6.1, q6.2)
  else
    (jo13_does F x0 x2 S).bind fun q2 =>
      jx_nx (q2.1) fun y3 =>
        if (q2.2.1 5 14) = (nI 4) then
          (jk_puts F (x2 + (nI 1)) q2.2).bind fun q5 =>
            some (y3, q5)
        else
          some (y3, q2.2)
noncomputable def jo16_does (F : Nat) (x0 : jo_R) (x2 : Int32) (S : jf_S) : Option (Int32 × jf_S) :=
  if (S.1 5 8) = 0 then
    (jk_trap F S).bind fun q7 =>
      some (q7.1, q7.2)
  else
    jx_ga ((S.1 5 8) - (nI 1)) 8 fun j2 =>
      (jk_lands F x2 (S.2.2.1 5 3 j2) S).bind fun q3 =>
        jx_nx (q3.1) fun y4 =>
          if (q3.2.1 5 14) = (nI 4) then
            jx_nx (jf_setI q3.2 5 8 ((q3.2.1 5 8) - (nI 1))) fun S6 =>
              some (y4, S6)
          else
            some (y4, q3.2)
noncomputable def jk_says (F : Nat) (x1 : Int32) (S : jf_S) : Option (jf_S) :=
  jx_ga (S.1 5 12) 300 fun j1 => jx_nx (jf_setA S 5 7 (upd (S.2.2.1 5 7) j1 x1)) fun S2 =>
    jx_nx (jf_setI S2 5 12 ((S2.1 5 12) + (nI 1))) fun S3 =>
      some S3
noncomputable def jo17_does (F : Nat) (x0 : jo_R) (x2 : Int32) (S : jf_S) : Option (Int32 × jf_S) :=
  (ja_of F (x0 6) S).bind fun q2 =>
    (jk_says F q2.1 q2.2).bind fun q4 =>
      some (x2 + (nI 1), q4)
noncomputable def jo18_does (F : Nat) (x0 : jo_R) (x2 : Int32) (S : jf_S) : Option (Int32 × jf_S) :=
  jx_nx (jf_setI S 5 14 (nI 0)) fun S1 =>
    some (x2, S1)
noncomputable def jv_does (F : Nat) (r : jo_R) (v1 : Int32) (S : jf_S) : Option (Int32 × jf_S) :=
  if r 0 = nI 0 then jo9_does F r v1 S else
  if r 0 = nI 1 then jo10_does F r v1 S else
  if r 0 = nI 2 then jo11_does F r v1 S else
  if r 0 = nI 3 then jo12_does F r v1 S else
  if r 0 = nI 4 then jo13_does F r v1 S else
  if r 0 = nI 5 then jo14_does F r v1 S else
  if r 0 = nI 6 then jo15_does F r v1 S else
  if r 0 = nI 7 then jo16_does F r v1 S else
  if r 0 = nI 8 then jo17_does F r v1 S else
  if r 0 = nI 9 then jo18_does F r v1 S else
  none
noncomputable def jk_step_b89 (F : Nat)  (S : jf_S) : Option (Int32 × jf_S) :=
  if (S.1 5 14) = (nI 4) then
    some (nI 1, S)
  else
    some (nI 0, S)
noncomputable def jk_step_b21 (F : Nat)  (S : jf_S) : Option (Int32 × jf_S) :=
  (jk_trap F S).bind fun q1 =>
    jk_step_b89 F q1.2
noncomputable def jk_step_b84 (F : Nat) (x2 : Int32) (S : jf_S) : Option (Int32 × jf_S) :=
  jx_nx (jf_setI S 5 9 x2) fun S1 =>
    jk_step_b89 F S1
noncomputable def jk_step_b64 (F : Nat) (x1 : Int32) (x2 : Int32) (S : jf_S) : Option (Int32 × jf_S) :=
  jx_ga (S.1 5 10) 300 fun j1 => jx_nx (jf_setA S 5 6 (upd (S.2.2.1 5 6) j1 x1)) fun S2 =>
    jx_nx (jf_setI S2 5 10 ((S2.1 5 10) + (nI 1))) fun S3 =>
      jk_step_b84 F x2 S3
noncomputable def jk_step (F : Nat)  (S : jf_S) : Option (Int32 × jf_S) :=
  if (S.1 5 9) < 0 then
    jk_step_b21 F S
  else
    if (S.1 5 9) < (S.1 3 13) then
      jx_nx (S.1 5 9) fun y3 =>
        jx_ga y3 40 fun j4 => (S.2.2.2.2 3 j4).bind fun r5 =>
          (jv_does F r5 y3 S).bind fun q6 =>
            jx_nx (q6.1) fun y7 =>
              if (q6.2.1 5 14) = (nI 4) then
                jk_step_b64 F y3 y7 q6.2
              else
                if (q6.2.1 5 14) = 0 then
                  jk_step_b64 F y3 y7 q6.2
                else
                  jk_step_b84 F y7 q6.2
    else
      jk_step_b21 F S
noncomputable def jk_runs_b23 (F : Nat) (r11 : Int32 × Int32 × jf_S → Option (jf_S)) (x1 : Int32) (S : jf_S) : Option (jf_S) :=
  if (S.1 5 10) = (nI 300) then
    jx_nx (jf_setI S 5 14 (nI 2)) fun S4 =>
      jx_nx (nI 0) fun y5 =>
        r11 (x1, y5, S4)
  else
    (jk_step F S).bind fun q2 =>
      jx_nx (q2.1) fun y3 =>
        r11 (x1, y3, q2.2)
noncomputable def jk_runs_L11 (F : Nat) (r11 : Int32 × Int32 × jf_S → Option (jf_S)) (x1 : Int32) (x3 : Int32) (S : jf_S) : Option (jf_S) :=
  if x3 = 0 then
    some S
  else
    if x1 = 0 then
      jk_runs_b23 F r11 x1 S
    else
      (jk_bends F S).bind fun q3 =>
        jk_runs_b23 F r11 x1 q3
noncomputable def jk_runs_h11 (F : Nat) : Nat → Int32 × Int32 × jf_S → Option (jf_S) := jx_loop fun r (a : Int32 × Int32 × jf_S) => jk_runs_L11 F r a.1 a.2.1 a.2.2
noncomputable def jk_runs (F : Nat) (x1 : Int32) (x2 : Int32) (S : jf_S) : Option (jf_S) :=
  (jk_begins F S).bind fun q1 =>
    jx_gz x2 <| jx_nx (jf_setI q1 5 18 x2) fun S2 =>
      jx_nx (nI 1) fun y4 =>
        jk_runs_h11 F F (x1, y4, S2)
noncomputable def jo9_only (F : Nat) (x0 : jo_R) (S : jf_S) : Option (Int32 × jf_S) :=
  if (x0 8) = 0 then
    some (jo_ac (x0 6), S)
  else
    some ((-1 : Int32), S)
noncomputable def jp_moves_b164 (F : Nat) (o : Nat) (x2 : jo_R) (x3 : Int64) (x5 : Int32) (S : jf_S) : Option (Int32 × jf_S) :=
  jx_ga (x2 5) 16 fun j2 =>
    if (lg_cmp x3 (S.2.2.2.1 o 9 j2)) = 0 then
      if x5 = (S.1 o 17) then
        some (nI 0, S)
      else
        some (nI 1, S)
    else
      some (nI 1, S)
noncomputable def jp_moves (F : Nat) (o : Nat) (x1 : jo_R) (S : jf_S) : Option (Int32 × jf_S) :=
  (jv_word F x1 S).bind fun q1 =>
    if q1.1 = (nI 1) then
      jx_ge (x1 0) (nI 1) <|
        jx_ga (x1 5) 16 fun j32 =>
          jx_nx (q1.2.2.2.2.1 o 9 j32) fun y33 =>
            jx_ga (x1 5) 16 fun j35 =>
              (jf_bit (x1 4)).bind fun q37 =>
                jx_ga (x1 5) 16 fun j38 => jx_nx (jf_setL q1.2 o 9 (vp_updL (q1.2.2.2.2.1 o 9) j38 ((q1.2.2.2.2.1 o 9 j35) ||| q37))) fun S39 =>
                  jx_ga (x1 5) 16 fun j41 =>
                    if (lg_cmp y33 (S39.2.2.2.1 o 9 j41)) = 0 then
                      some (nI 0, S39)
                    else
                      some (nI 1, S39)
    else
      (jv_word F x1 q1.2).bind fun q3 =>
        if q3.1 = 0 then
          jx_ge (x1 0) (nI 0) <|
            jx_ga (x1 5) 16 fun j9 =>
              jx_nx (q3.2.2.2.2.1 o 9 j9) fun y10 =>
                jx_nx (q3.2.1 o 17) fun y11 =>
                  (jo9_only F x1 q3.2).bind fun q12 =>
                    if q12.1 = (-1 : Int32) then
                      jx_nx (jf_setI q12.2 o 17 ((q12.2.1 o 17) ||| ((nI 1) <<< ((x1 5) &&& 31)))) fun S27 =>
                        jp_moves_b164 F o x1 y10 y11 S27
                    else
                      jx_ga (x1 5) 16 fun j16 =>
                        (jo9_only F x1 q12.2).bind fun q17 =>
                          jx_ga q17.1 16 fun j19 =>
                            jx_ga (x1 5) 16 fun j20 => jx_nx (jf_setL q17.2 o 9 (vp_updL (q17.2.2.2.2.1 o 9) j20 ((q12.2.2.2.2.1 o 9 j16) ||| (q17.2.2.2.2.1 o 9 j19)))) fun S21 =>
                              (jo9_only F x1 S21).bind fun q22 =>
                                jx_nx (jf_setI q22.2 o 17 ((S21.1 o 17) ||| ((((S21.1 o 17) >>> (q22.1 &&& 31)) &&& (nI 1)) <<< ((x1 5) &&& 31)))) fun S25 =>
                                  jp_moves_b164 F o x1 y10 y11 S25
        else
          some (nI 0, q3.2)
noncomputable def jp_cells_b66 (F : Nat) (o : Nat) (r28 : Int32 × jf_S → Option (jf_S)) (r36 : Int32 × Int32 × jf_S → Option (jf_S)) (x2 : Int32) (k0 : Int32) (S : jf_S) : Option (jf_S) :=
  jx_nx (x2 + nI 1) fun y1 =>
    r36 (k0, y1, S)
noncomputable def jp_cells_b61 (F : Nat) (o : Nat) (r28 : Int32 × jf_S → Option (jf_S)) (r36 : Int32 × Int32 × jf_S → Option (jf_S)) (x2 : Int32) (S : jf_S) : Option (jf_S) :=
  jp_cells_b66 F o r28 r36 x2 (nI 1) S
noncomputable def jp_cells_L36 (F : Nat) (o : Nat) (r28 : Int32 × jf_S → Option (jf_S)) (r36 : Int32 × Int32 × jf_S → Option (jf_S)) (x1 : Int32) (x2 : Int32) (S : jf_S) : Option (jf_S) :=
  if (S.1 o 13) ≤ x2 then
    r28 (x1, S)
  else
    jx_ga x2 40 fun j2 => (S.2.2.2.2 o j2).bind fun r3 =>
      (jp_moves F o r3 S).bind fun q4 =>
        if q4.1 = 0 then
          if x1 = 0 then
            jp_cells_b66 F o r28 r36 x2 (nI 0) q4.2
          else
            jp_cells_b61 F o r28 r36 x2 q4.2
        else
          jp_cells_b61 F o r28 r36 x2 q4.2
noncomputable def jp_cells_h36 (F : Nat) (o : Nat) (r28 : Int32 × jf_S → Option (jf_S)) : Nat → Int32 × Int32 × jf_S → Option (jf_S) := jx_loop fun r (a : Int32 × Int32 × jf_S) => jp_cells_L36 F o r28 r a.1 a.2.1 a.2.2
noncomputable def jp_cells_L28 (F : Nat) (o : Nat) (r28 : Int32 × jf_S → Option (jf_S)) (x1 : Int32) (S : jf_S) : Option (jf_S) :=
  if x1 = 0 then
    some S
  else
    jx_nx (nI 0) fun y2 =>
      jx_nx (nI 0) fun y3 =>
        jp_cells_h36 F o r28 F (y2, y3, S)
noncomputable def jp_cells_h28 (F : Nat) (o : Nat) : Nat → Int32 × jf_S → Option (jf_S) := jx_loop fun r (a : Int32 × jf_S) => jp_cells_L28 F o r a.1 a.2
noncomputable def jp_cells_L7 (F : Nat) (o : Nat) (r7 : Int32 × jf_S → Option (jf_S)) (x1 : Int32) (S : jf_S) : Option (jf_S) :=
  if (nI 16) ≤ x1 then
    jx_nx (nI 1) fun y2 =>
      jp_cells_h28 F o F (y2, S)
  else
    jx_ga x1 16 fun j3 => jx_nx (jf_setL S o 9 (vp_updL (S.2.2.2.1 o 9) j3 (lN 0))) fun S4 =>
      jx_nx (x1 + nI 1) fun y5 =>
        r7 (y5, S4)
noncomputable def jp_cells_h7 (F : Nat) (o : Nat) : Nat → Int32 × jf_S → Option (jf_S) := jx_loop fun r (a : Int32 × jf_S) => jp_cells_L7 F o r a.1 a.2
noncomputable def jp_cells (F : Nat) (o : Nat)  (S : jf_S) : Option (jf_S) :=
  jx_nx (jf_setI S o 17 (nI 0)) fun S1 =>
    jx_nx (nI 0) fun y2 =>
      jp_cells_h7 F o F (y2, S1)
noncomputable def jo8_puts (F : Nat) (x0 : jo_R) (S : jf_S) : Option (Int32 × jf_S) :=
  some (nI 0, S)
noncomputable def jo14_puts (F : Nat) (x0 : jo_R) (S : jf_S) : Option (Int32 × jf_S) :=
  some (nI 1, S)
noncomputable def jo15_puts (F : Nat) (x0 : jo_R) (S : jf_S) : Option (Int32 × jf_S) :=
  some (nI 1, S)
noncomputable def jv_puts (F : Nat) (r : jo_R)  (S : jf_S) : Option (Int32 × jf_S) :=
  if r 0 = nI 0 then jo8_puts F r  S else
  if r 0 = nI 1 then jo8_puts F r  S else
  if r 0 = nI 2 then jo8_puts F r  S else
  if r 0 = nI 3 then jo8_puts F r  S else
  if r 0 = nI 4 then jo8_puts F r  S else
  if r 0 = nI 5 then jo14_puts F r  S else
  if r 0 = nI 6 then jo15_puts F r  S else
  if r 0 = nI 7 then jo8_puts F r  S else
  if r 0 = nI 8 then jo8_puts F r  S else
  if r 0 = nI 9 then jo8_puts F r  S else
  none
noncomputable def jo8_kind (F : Nat) (x0 : jo_R) (S : jf_S) : Option (Int32 × jf_S) :=
  some (nI 0, S)
noncomputable def jo13_kind (F : Nat) (x0 : jo_R) (S : jf_S) : Option (Int32 × jf_S) :=
  some (x0 3, S)
noncomputable def jv_kind (F : Nat) (r : jo_R)  (S : jf_S) : Option (Int32 × jf_S) :=
  if r 0 = nI 0 then jo8_kind F r  S else
  if r 0 = nI 1 then jo8_kind F r  S else
  if r 0 = nI 2 then jo8_kind F r  S else
  if r 0 = nI 3 then jo8_kind F r  S else
  if r 0 = nI 4 then jo13_kind F r  S else
  if r 0 = nI 5 then jo8_kind F r  S else
  if r 0 = nI 6 then jo13_kind F r  S else
  if r 0 = nI 7 then jo8_kind F r  S else
  if r 0 = nI 8 then jo8_kind F r  S else
  if r 0 = nI 9 then jo8_kind F r  S else
  none
noncomputable def jo8_within (F : Nat) (o : Nat) (x0 : jo_R) (x2 : Int32) (S : jf_S) : Option (Int64 × jf_S) :=
  (jf_bit (x2 + (nI 1))).bind fun q1 =>
    some (q1, S)
noncomputable def jo11_within (F : Nat) (o : Nat) (x0 : jo_R) (x2 : Int32) (S : jf_S) : Option (Int64 × jf_S) :=
  (jf_bit (x0 4)).bind fun q2 =>
    some (q2, S)
noncomputable def jo12_within (F : Nat) (o : Nat) (x0 : jo_R) (x2 : Int32) (S : jf_S) : Option (Int64 × jf_S) :=
  (jf_bit (x0 4)).bind fun q2 =>
    (jf_bit (x2 + (nI 1))).bind fun q3 =>
      some (q2 ||| q3, S)
noncomputable def jo13_within (F : Nat) (o : Nat) (x0 : jo_R) (x2 : Int32) (S : jf_S) : Option (Int64 × jf_S) :=
  jx_ga x2 40 fun j1 =>
    some (S.2.2.2.1 o 11 j1, S)
noncomputable def jo15_within (F : Nat) (o : Nat) (x0 : jo_R) (x2 : Int32) (S : jf_S) : Option (Int64 × jf_S) :=
  (jf_bit (x2 + (nI 1))).bind fun q1 =>
    some (q1, S)
noncomputable def jo16_within (F : Nat) (o : Nat) (x0 : jo_R) (x2 : Int32) (S : jf_S) : Option (Int64 × jf_S) :=
  some (lN 0, S)
noncomputable def jo18_within (F : Nat) (o : Nat) (x0 : jo_R) (x2 : Int32) (S : jf_S) : Option (Int64 × jf_S) :=
  some (lN 0, S)
noncomputable def jv_within (F : Nat) (o : Nat) (r : jo_R) (v1 : Int32) (S : jf_S) : Option (Int64 × jf_S) :=
  if r 0 = nI 0 then jo8_within F o r v1 S else
  if r 0 = nI 1 then jo8_within F o r v1 S else
  if r 0 = nI 2 then jo11_within F o r v1 S else
  if r 0 = nI 3 then jo12_within F o r v1 S else
  if r 0 = nI 4 then jo13_within F o r v1 S else
  if r 0 = nI 5 then jo8_within F o r v1 S else
  if r 0 = nI 6 then jo15_within F o r v1 S else
  if r 0 = nI 7 then jo16_within F o r v1 S else
  if r 0 = nI 8 then jo8_within F o r v1 S else
  if r 0 = nI 9 then jo18_within F o r v1 S else
  none
noncomputable def jp_walks_b63 (F : Nat) (o : Nat) (r8 : Int64 × Int64 × jf_S → Option (Int64 × jf_S)) (r21 : Int64 × Int64 × Int32 × jf_S → Option (Int64 × jf_S)) (x2 : Int64) (x4 : Int64) (x6 : Int32) (S : jf_S) : Option (Int64 × jf_S) :=
  jx_nx (x6 + nI 1) fun y1 =>
    r21 (x2, x4, y1, S)
noncomputable def jp_walks_L21 (F : Nat) (o : Nat) (r8 : Int64 × Int64 × jf_S → Option (Int64 × jf_S)) (r21 : Int64 × Int64 × Int32 × jf_S → Option (Int64 × jf_S)) (x2 : Int64) (x4 : Int64) (x6 : Int32) (S : jf_S) : Option (Int64 × jf_S) :=
  if (S.1 o 13) ≤ x6 then
    r8 (x2, x4, S)
  else
    if (lg_cmp ((x4 >>> (x6.toInt64 &&& 63)) &&& (lN 1)) (lN 1)) = 0 then
      jx_ga x6 40 fun j3 => (S.2.2.2.2 o j3).bind fun r4 =>
        (jv_within F o r4 x6 S).bind fun q5 =>
          (jp_all F o q5.2).bind fun q6 =>
            jx_nx (x2 ||| (q5.1 &&& q6.1)) fun y7 =>
              jp_walks_b63 F o r8 r21 y7 x4 x6 q6.2
    else
      jp_walks_b63 F o r8 r21 x2 x4 x6 S
noncomputable def jp_walks_h21 (F : Nat) (o : Nat) (r8 : Int64 × Int64 × jf_S → Option (Int64 × jf_S)) : Nat → Int64 × Int64 × Int32 × jf_S → Option (Int64 × jf_S) := jx_loop fun r (a : Int64 × Int64 × Int32 × jf_S) => jp_walks_L21 F o r8 r a.1 a.2.1 a.2.2.1 a.2.2.2
noncomputable def jp_walks_L8 (F : Nat) (o : Nat) (r8 : Int64 × Int64 × jf_S → Option (Int64 × jf_S)) (x2 : Int64) (x4 : Int64) (S : jf_S) : Option (Int64 × jf_S) :=
  if (lg_cmp x2 x4) = 0 then
    some (x2, S)
  else
    jx_nx (nI 0) fun y2 =>
      jp_walks_h21 F o r8 F (x2, x2, y2, S)
noncomputable def jp_walks_h8 (F : Nat) (o : Nat) : Nat → Int64 × Int64 × jf_S → Option (Int64 × jf_S) := jx_loop fun r (a : Int64 × Int64 × jf_S) => jp_walks_L8 F o r a.1 a.2.1 a.2.2
noncomputable def jp_walks (F : Nat) (o : Nat) (x1 : Int32) (S : jf_S) : Option (Int64 × jf_S) :=
  (jf_bit x1).bind fun q1 =>
    jx_nx (lN 0) fun y2 =>
      jp_walks_h8 F o F (q1, y2, S)
noncomputable def jo8_place (F : Nat) (x0 : jo_R) (S : jf_S) : Option (Int32 × jf_S) :=
  some ((-1 : Int32), S)
noncomputable def jo10_place (F : Nat) (x0 : jo_R) (S : jf_S) : Option (Int32 × jf_S) :=
  some (x0 4, S)
noncomputable def jo11_place (F : Nat) (x0 : jo_R) (S : jf_S) : Option (Int32 × jf_S) :=
  some (x0 4, S)
noncomputable def jo12_place (F : Nat) (x0 : jo_R) (S : jf_S) : Option (Int32 × jf_S) :=
  some (x0 4, S)
noncomputable def jo14_place (F : Nat) (x0 : jo_R) (S : jf_S) : Option (Int32 × jf_S) :=
  some (x0 4, S)
noncomputable def jv_place (F : Nat) (r : jo_R)  (S : jf_S) : Option (Int32 × jf_S) :=
  if r 0 = nI 0 then jo8_place F r  S else
  if r 0 = nI 1 then jo10_place F r  S else
  if r 0 = nI 2 then jo11_place F r  S else
  if r 0 = nI 3 then jo12_place F r  S else
  if r 0 = nI 4 then jo8_place F r  S else
  if r 0 = nI 5 then jo14_place F r  S else
  if r 0 = nI 6 then jo8_place F r  S else
  if r 0 = nI 7 then jo8_place F r  S else
  if r 0 = nI 8 then jo8_place F r  S else
  if r 0 = nI 9 then jo8_place F r  S else
  none
noncomputable def jp_backs_b126 (F : Nat) (o : Nat) (r5 : Int32 × Int64 × Int32 × jf_S → Option (Int64 × jf_S)) (r79 : Int32 × Int64 × Int32 × Int64 × Int32 × jf_S → Option (Int64 × jf_S)) (x1 : Int32) (x2 : Int64) (x4 : Int32) (x5 : Int64) (x7 : Int32) (S : jf_S) : Option (Int64 × jf_S) :=
  jx_nx (x7 + nI 1) fun y1 =>
    r79 (x1, x2, x4, x5, y1, S)
noncomputable def jp_backs_b132 (F : Nat) (o : Nat) (r5 : Int32 × Int64 × Int32 × jf_S → Option (Int64 × jf_S)) (x1 : Int32) (x2 : Int64) (x4 : Int32) (S : jf_S) : Option (Int64 × jf_S) :=
  jx_nx (x4 + nI 1) fun y1 =>
    r5 (x1, x2, y1, S)
noncomputable def jp_backs_L79 (F : Nat) (o : Nat) (r5 : Int32 × Int64 × Int32 × jf_S → Option (Int64 × jf_S)) (r79 : Int32 × Int64 × Int32 × Int64 × Int32 × jf_S → Option (Int64 × jf_S)) (x1 : Int32) (x2 : Int64) (x4 : Int32) (x5 : Int64) (x7 : Int32) (S : jf_S) : Option (Int64 × jf_S) :=
  if (S.1 o 13) ≤ x7 then
    jp_backs_b132 F o r5 x1 x2 x4 S
  else
    if (lg_cmp ((x5 >>> (x7.toInt64 &&& 63)) &&& (lN 1)) (lN 1)) = 0 then
      jx_ga x7 40 fun j3 =>
        if (lg_cmp (((S.2.2.2.1 o 12 j3) >>> (x1.toInt64 &&& 63)) &&& (lN 1)) (lN 1)) = 0 then
          (jf_bit (x4 + (nI 1))).bind fun q5 =>
            jx_nx (x2 ||| q5) fun y6 =>
              jp_backs_b126 F o r5 r79 x1 y6 x4 x5 x7 S
        else
          jp_backs_b126 F o r5 r79 x1 x2 x4 x5 x7 S
    else
      jp_backs_b126 F o r5 r79 x1 x2 x4 x5 x7 S
noncomputable def jp_backs_h79 (F : Nat) (o : Nat) (r5 : Int32 × Int64 × Int32 × jf_S → Option (Int64 × jf_S)) : Nat → Int32 × Int64 × Int32 × Int64 × Int32 × jf_S → Option (Int64 × jf_S) := jx_loop fun r (a : Int32 × Int64 × Int32 × Int64 × Int32 × jf_S) => jp_backs_L79 F o r5 r a.1 a.2.1 a.2.2.1 a.2.2.2.1 a.2.2.2.2.1 a.2.2.2.2.2
noncomputable def jp_backs_b74 (F : Nat) (o : Nat) (r5 : Int32 × Int64 × Int32 × jf_S → Option (Int64 × jf_S)) (x1 : Int32) (x2 : Int64) (x4 : Int32) (k0 : Int64) (S : jf_S) : Option (Int64 × jf_S) :=
  jx_nx (nI 0) fun y1 =>
    jp_backs_h79 F o r5 F (x1, x2, x4, k0, y1, S)
noncomputable def jp_backs_L5 (F : Nat) (o : Nat) (r5 : Int32 × Int64 × Int32 × jf_S → Option (Int64 × jf_S)) (x1 : Int32) (x2 : Int64) (x4 : Int32) (S : jf_S) : Option (Int64 × jf_S) :=
  if (S.1 o 13) ≤ (x4 + (nI 1)) then
    some (x2, S)
  else
    jx_ga x4 40 fun j2 => (S.2.2.2.2 o j2).bind fun r3 =>
      (jv_puts F r3 S).bind fun q4 =>
        if q4.1 = 0 then
          jp_backs_b132 F o r5 x1 x2 x4 q4.2
        else
          jx_ga x4 40 fun j6 => (q4.2.2.2.2.2 o j6).bind fun r7 =>
            (jv_word F r7 q4.2).bind fun q8 =>
              if q8.1 = (nI 5) then
                jx_ga x4 40 fun j11 => (q8.2.2.2.2.2 o j11).bind fun r12 =>
                  (jv_place F r12 q8.2).bind fun q13 =>
                    (jf_bit q13.1).bind fun q14 =>
                      (jp_all F o q13.2).bind fun q15 =>
                        jp_backs_b74 F o r5 x1 x2 x4 (q14 &&& q15.1) q15.2
              else
                jx_ga x4 40 fun j10 =>
                  jp_backs_b74 F o r5 x1 x2 x4 (q8.2.2.2.2.1 o 11 j10) q8.2
noncomputable def jp_backs_h5 (F : Nat) (o : Nat) : Nat → Int32 × Int64 × Int32 × jf_S → Option (Int64 × jf_S) := jx_loop fun r (a : Int32 × Int64 × Int32 × jf_S) => jp_backs_L5 F o r a.1 a.2.1 a.2.2.1 a.2.2.2
noncomputable def jp_backs (F : Nat) (o : Nat) (x1 : Int32) (S : jf_S) : Option (Int64 × jf_S) :=
  jx_nx (lN 0) fun y1 =>
    jx_nx (nI 0) fun y2 =>
      jp_backs_h5 F o F (x1, y1, y2, S)
noncomputable def jp_learns_b51 (F : Nat) (o : Nat) (r11 : Int32 × jf_S → Option (jf_S)) (x1 : Int32) (S : jf_S) : Option (jf_S) :=
  jx_nx (x1 + nI 1) fun y1 =>
    r11 (y1, S)
noncomputable def jp_learns_b155 (F : Nat) (o : Nat) (r59 : Int32 × jf_S → Option (jf_S)) (r97 : Int32 × Int32 × jf_S → Option (jf_S)) (x1 : Int32) (x2 : Int32) (k0 : Int64) (k1 : Int64) (k2 : Int32) (S : jf_S) : Option (jf_S) :=
  jx_ga k2 40 fun j1 => jx_nx (jf_setL S o 10 (vp_updL (S.2.2.2.1 o 10) j1 (k1 ||| k0))) fun S2 =>
    jx_nx (x2 + nI 1) fun y3 =>
      r97 (x1, y3, S2)
noncomputable def jp_learns_b233 (F : Nat) (o : Nat) (r59 : Int32 × jf_S → Option (jf_S)) (x1 : Int32) (S : jf_S) : Option (jf_S) :=
  jx_nx (x1 + nI 1) fun y1 =>
    r59 (y1, S)
noncomputable def jp_learns_b232 (F : Nat) (o : Nat) (r59 : Int32 × jf_S → Option (jf_S)) (x1 : Int32) (k0 : Int64) (k1 : Int32) (S : jf_S) : Option (jf_S) :=
  jx_ga k1 40 fun j1 => jx_nx (jf_setL S o 11 (vp_updL (S.2.2.2.1 o 11) j1 k0)) fun S2 =>
    jp_learns_b233 F o r59 x1 S2
noncomputable def jp_learns_b163 (F : Nat) (o : Nat) (r59 : Int32 × jf_S → Option (jf_S)) (x1 : Int32) (S : jf_S) : Option (jf_S) :=
  jx_ga x1 40 fun j1 => (S.2.2.2.2 o j1).bind fun r2 =>
    (jv_cell F r2 S).bind fun q3 =>
      if q3.1 = (-1 : Int32) then
        jp_learns_b233 F o r59 x1 q3.2
      else
        jx_ga x1 40 fun j5 => (q3.2.2.2.2.2 o j5).bind fun r6 =>
          (jv_cell F r6 q3.2).bind fun q7 =>
            if (((q3.2.1 o 17) >>> (q7.1 &&& 31)) &&& (nI 1)) = (nI 1) then
              jx_ga x1 40 fun j14 =>
                jp_learns_b232 F o r59 x1 (q7.2.2.2.2.1 o 10 j14) x1 q7.2
            else
              jx_ga x1 40 fun j9 => (q7.2.2.2.2.2 o j9).bind fun r10 =>
                (jv_cell F r10 q7.2).bind fun q11 =>
                  jx_ga q11.1 16 fun j12 =>
                    (jp_all F o q11.2).bind fun q13 =>
                      jp_learns_b232 F o r59 x1 ((q11.2.2.2.2.1 o 9 j12) &&& q13.1) x1 q13.2
noncomputable def jp_learns_L97 (F : Nat) (o : Nat) (r59 : Int32 × jf_S → Option (jf_S)) (r97 : Int32 × Int32 × jf_S → Option (jf_S)) (x1 : Int32) (x2 : Int32) (S : jf_S) : Option (jf_S) :=
  if (S.1 o 13) ≤ x2 then
    jp_learns_b163 F o r59 x1 S
  else
    jx_ga x1 40 fun j2 => (S.2.2.2.2 o j2).bind fun r3 =>
      (jv_word F r3 S).bind fun q4 =>
        if q4.1 = (nI 7) then
          jp_learns_b163 F o r59 x1 q4.2
        else
          jx_ga x1 40 fun j6 =>
            jx_ga x2 40 fun j7 => (q4.2.2.2.2.2 o j7).bind fun r8 =>
              jx_ga x1 40 fun j9 => (q4.2.2.2.2.2 o j9).bind fun r10 =>
                (jv_kind F r10 q4.2).bind fun q11 =>
                  if (r8 1) = q11.1 then
                    (jf_bit x2).bind fun q13 =>
                      jp_learns_b155 F o r59 r97 x1 x2 q13 (q4.2.2.2.2.1 o 10 j6) x1 q11.2
                  else
                    jp_learns_b155 F o r59 r97 x1 x2 (lN 0) (q4.2.2.2.2.1 o 10 j6) x1 q11.2
noncomputable def jp_learns_h97 (F : Nat) (o : Nat) (r59 : Int32 × jf_S → Option (jf_S)) : Nat → Int32 × Int32 × jf_S → Option (jf_S) := jx_loop fun r (a : Int32 × Int32 × jf_S) => jp_learns_L97 F o r59 r a.1 a.2.1 a.2.2
noncomputable def jp_learns_b94 (F : Nat) (o : Nat) (r59 : Int32 × jf_S → Option (jf_S)) (x1 : Int32) (k0 : Int64) (k1 : Int32) (S : jf_S) : Option (jf_S) :=
  jx_ga k1 40 fun j1 => jx_nx (jf_setL S o 10 (vp_updL (S.2.2.2.1 o 10) j1 k0)) fun S2 =>
    jx_nx (nI 0) fun y3 =>
      jp_learns_h97 F o r59 F (x1, y3, S2)
noncomputable def jp_learns_b301 (F : Nat) (o : Nat) (r268 : Int32 × jf_S → Option (jf_S)) (x1 : Int32) (S : jf_S) : Option (jf_S) :=
  jx_nx (x1 + nI 1) fun y1 =>
    r268 (y1, S)
noncomputable def jp_learns_L268 (F : Nat) (o : Nat) (r268 : Int32 × jf_S → Option (jf_S)) (x1 : Int32) (S : jf_S) : Option (jf_S) :=
  if (S.1 o 13) ≤ x1 then
    some S
  else
    jx_ga x1 40 fun j2 => (S.2.2.2.2 o j2).bind fun r3 =>
      (jv_word F r3 S).bind fun q4 =>
        if q4.1 = (nI 7) then
          (jp_backs F o x1 q4.2).bind fun q6 =>
            jx_ga x1 40 fun j7 => jx_nx (jf_setL q6.2 o 11 (vp_updL (q6.2.2.2.2.1 o 11) j7 q6.1)) fun S8 =>
              jp_learns_b301 F o r268 x1 S8
        else
          jp_learns_b301 F o r268 x1 q4.2
noncomputable def jp_learns_h268 (F : Nat) (o : Nat) : Nat → Int32 × jf_S → Option (jf_S) := jx_loop fun r (a : Int32 × jf_S) => jp_learns_L268 F o r a.1 a.2
noncomputable def jp_learns_L241 (F : Nat) (o : Nat) (r241 : Int32 × jf_S → Option (jf_S)) (x1 : Int32) (S : jf_S) : Option (jf_S) :=
  if (S.1 o 13) ≤ x1 then
    jx_nx (nI 0) fun y2 =>
      jp_learns_h268 F o F (y2, S)
  else
    (jp_walks F o x1 S).bind fun q3 =>
      jx_ga x1 40 fun j4 => jx_nx (jf_setL q3.2 o 12 (vp_updL (q3.2.2.2.2.1 o 12) j4 q3.1)) fun S5 =>
        jx_nx (x1 + nI 1) fun y6 =>
          r241 (y6, S5)
noncomputable def jp_learns_h241 (F : Nat) (o : Nat) : Nat → Int32 × jf_S → Option (jf_S) := jx_loop fun r (a : Int32 × jf_S) => jp_learns_L241 F o r a.1 a.2
noncomputable def jp_learns_L59 (F : Nat) (o : Nat) (r59 : Int32 × jf_S → Option (jf_S)) (x1 : Int32) (S : jf_S) : Option (jf_S) :=
  if (S.1 o 13) ≤ x1 then
    jx_nx (nI 0) fun y2 =>
      jp_learns_h241 F o F (y2, S)
  else
    jx_ga x1 40 fun j3 => (S.2.2.2.2 o j3).bind fun r4 =>
      (jv_word F r4 S).bind fun q5 =>
        if q5.1 = (nI 7) then
          jp_learns_b94 F o r59 x1 (q5.2.2.1 o 18) x1 q5.2
        else
          jp_learns_b94 F o r59 x1 (lN 0) x1 q5.2
noncomputable def jp_learns_h59 (F : Nat) (o : Nat) : Nat → Int32 × jf_S → Option (jf_S) := jx_loop fun r (a : Int32 × jf_S) => jp_learns_L59 F o r a.1 a.2
noncomputable def jp_learns_L11 (F : Nat) (o : Nat) (r11 : Int32 × jf_S → Option (jf_S)) (x1 : Int32) (S : jf_S) : Option (jf_S) :=
  if (S.1 o 13) ≤ x1 then
    jx_nx (nI 0) fun y2 =>
      jp_learns_h59 F o F (y2, S)
  else
    jx_ga x1 40 fun j3 => (S.2.2.2.2 o j3).bind fun r4 =>
      (jv_puts F r4 S).bind fun q5 =>
        if q5.1 = 0 then
          jp_learns_b51 F o r11 x1 q5.2
        else
          (jf_bit (x1 + (nI 1))).bind fun q7 =>
            (jp_all F o q5.2).bind fun q8 =>
              jx_nx (jf_setJ q8.2 o 18 ((q5.2.2.1 o 18) ||| (q7 &&& q8.1))) fun S9 =>
                jp_learns_b51 F o r11 x1 S9
noncomputable def jp_learns_h11 (F : Nat) (o : Nat) : Nat → Int32 × jf_S → Option (jf_S) := jx_loop fun r (a : Int32 × jf_S) => jp_learns_L11 F o r a.1 a.2
noncomputable def jp_learns (F : Nat) (o : Nat)  (S : jf_S) : Option (jf_S) :=
  (jp_cells F o S).bind fun q1 =>
    jx_nx (jf_setJ q1 o 18 (lN 0)) fun S2 =>
      jx_nx (nI 0) fun y3 =>
        jp_learns_h11 F o F (y3, S2)
noncomputable def jo17_mayDo (F : Nat) (x0 : jo_R) (x1 : Int32) (S : jf_S) : Option (Int32 × jf_S) :=
  if (jo_ac (x0 6)) = (-1 : Int32) then
    if (jo_an (x0 6)) = x1 then
      some (nI 1, S)
    else
      some (nI 0, S)
  else
    some (nI 1, S)
noncomputable def jp_doors_b59 (F : Nat) (o : Nat) (r5 : Int32 × Int64 × Int32 × jf_S → Option (Int64 × jf_S)) (x1 : Int32) (x2 : Int64) (x4 : Int32) (S : jf_S) : Option (Int64 × jf_S) :=
  jx_nx (x4 + nI 1) fun y1 =>
    r5 (x1, x2, y1, S)
noncomputable def jp_doors_L5 (F : Nat) (o : Nat) (r5 : Int32 × Int64 × Int32 × jf_S → Option (Int64 × jf_S)) (x1 : Int32) (x2 : Int64) (x4 : Int32) (S : jf_S) : Option (Int64 × jf_S) :=
  if (S.1 o 13) ≤ x4 then
    some (x2, S)
  else
    jx_ga x4 40 fun j2 => (S.2.2.2.2 o j2).bind fun r3 =>
      (jv_word F r3 S).bind fun q4 =>
        if q4.1 = (nI 8) then
          jx_ga x4 40 fun j6 => (q4.2.2.2.2.2 o j6).bind fun r7 =>
            jx_ge (r7 0) (nI 8) <|
              jx_ga x1 8 fun j11 =>
                (jo17_mayDo F r7 (q4.2.2.2.1 o 4 j11) q4.2).bind fun q12 =>
                  if q12.1 = 0 then
                    jp_doors_b59 F o r5 x1 x2 x4 q12.2
                  else
                    (jf_bit x4).bind fun q15 =>
                      jx_nx (x2 ||| q15) fun y16 =>
                        jp_doors_b59 F o r5 x1 y16 x4 q12.2
        else
          jp_doors_b59 F o r5 x1 x2 x4 q4.2
noncomputable def jp_doors_h5 (F : Nat) (o : Nat) : Nat → Int32 × Int64 × Int32 × jf_S → Option (Int64 × jf_S) := jx_loop fun r (a : Int32 × Int64 × Int32 × jf_S) => jp_doors_L5 F o r a.1 a.2.1 a.2.2.1 a.2.2.2
noncomputable def jp_doors (F : Nat) (o : Nat) (x1 : Int32) (S : jf_S) : Option (Int64 × jf_S) :=
  jx_nx (lN 0) fun y1 =>
    jx_nx (nI 0) fun y2 =>
      jp_doors_h5 F o F (x1, y1, y2, S)
noncomputable def jo8_may (F : Nat) (o : Nat) (go gk : Nat) (x0 : jo_R) (x2 : Int32) (x4 : Int32) (x5 : Int32) (S : jf_S) : Option (Int64 × jf_S) :=
  (jf_bit (x2 + (nI 1))).bind fun q1 =>
    some (q1, S)
noncomputable def jo11_may (F : Nat) (o : Nat) (go gk : Nat) (x0 : jo_R) (x2 : Int32) (x4 : Int32) (x5 : Int32) (S : jf_S) : Option (Int64 × jf_S) :=
  (jf_bit (x0 4)).bind fun q2 =>
    some (q2, S)
noncomputable def jo12_may_b22 (F : Nat) (o : Nat) (go gk : Nat) (x0 : jo_R) (x2 : Int32) (S : jf_S) : Option (Int64 × jf_S) :=
  (jf_bit (x0 4)).bind fun q2 =>
    (jf_bit (x2 + (nI 1))).bind fun q3 =>
      some (q2 ||| q3, S)
noncomputable def jo12_may (F : Nat) (o : Nat) (go gk : Nat) (x0 : jo_R) (x2 : Int32) (x4 : Int32) (x5 : Int32) (S : jf_S) : Option (Int64 × jf_S) :=
  if (jo_ac (x0 6)) = (-1 : Int32) then
    if (jo_ac (x0 7)) = (-1 : Int32) then
      (jf_ifHolds (jo_an (x0 6)) (x0 8) (jo_an (x0 7))).bind fun q12 =>
        if q12 = 0 then
          (jf_bit (x2 + (nI 1))).bind fun q14 =>
            some (q14, S)
        else
          (jf_bit (x0 4)).bind fun q16 =>
            some (q16, S)
    else
      jo12_may_b22 F o go gk x0 x2 S
  else
    jo12_may_b22 F o go gk x0 x2 S
noncomputable def jo13_may (F : Nat) (o : Nat) (go gk : Nat) (x0 : jo_R) (x2 : Int32) (x4 : Int32) (x5 : Int32) (S : jf_S) : Option (Int64 × jf_S) :=
  jx_ga x2 40 fun j1 =>
    (jp_lets F o x2 (S.2.2.1 go gk j1) S).bind fun q2 =>
      jx_nx (q2.1) fun y3 =>
        if ((x4 >>> ((x0 5) &&& 31)) &&& (nI 1)) = (nI 1) then
          some (y3, q2.2)
        else
          if (((q2.2.1 o 17) >>> ((x0 5) &&& 31)) &&& (nI 1)) = (nI 1) then
            some (y3, q2.2)
          else
            jx_ga (x0 5) 16 fun j6 =>
              some ((q2.2.2.2.2.1 o 9 j6) &&& y3, q2.2)
noncomputable def jo14_may (F : Nat) (o : Nat) (go gk : Nat) (x0 : jo_R) (x2 : Int32) (x4 : Int32) (x5 : Int32) (S : jf_S) : Option (Int64 × jf_S) :=
  (jf_bit (x0 4)).bind fun q2 =>
    some (q2, S)
noncomputable def jo16_may_b27 (F : Nat) (o : Nat) (go gk : Nat) (x0 : jo_R) (x6 : Int64) (S : jf_S) : Option (Int64 × jf_S) :=
  some ((S.2.1 o 18) &&& x6, S)
noncomputable def jo16_may (F : Nat) (o : Nat) (go gk : Nat) (x0 : jo_R) (x2 : Int32) (x4 : Int32) (x5 : Int32) (S : jf_S) : Option (Int64 × jf_S) :=
  jx_ga x2 40 fun j1 =>
    (jp_lets F o x2 (S.2.2.1 go gk j1) S).bind fun q2 =>
      jx_nx (q2.1) fun y3 =>
        if x5 = 0 then
          jo16_may_b27 F o go gk x0 y3 q2.2
        else
          jx_ga x2 40 fun j5 =>
            if (nI 3) ≤ (q2.2.2.2.1 go gk j5) then
              jo16_may_b27 F o go gk x0 y3 q2.2
            else
              some (y3, q2.2)
noncomputable def jo18_may (F : Nat) (o : Nat) (go gk : Nat) (x0 : jo_R) (x2 : Int32) (x4 : Int32) (x5 : Int32) (S : jf_S) : Option (Int64 × jf_S) :=
  some (lN 0, S)
noncomputable def jv_may (F : Nat) (o : Nat) (go gk : Nat) (r : jo_R) (v1 : Int32) (v3 : Int32) (v4 : Int32) (S : jf_S) : Option (Int64 × jf_S) :=
  if r 0 = nI 0 then jo8_may F o go gk r v1 v3 v4 S else
  if r 0 = nI 1 then jo8_may F o go gk r v1 v3 v4 S else
  if r 0 = nI 2 then jo11_may F o go gk r v1 v3 v4 S else
  if r 0 = nI 3 then jo12_may F o go gk r v1 v3 v4 S else
  if r 0 = nI 4 then jo13_may F o go gk r v1 v3 v4 S else
  if r 0 = nI 5 then jo14_may F o go gk r v1 v3 v4 S else
  if r 0 = nI 6 then jo13_may F o go gk r v1 v3 v4 S else
  if r 0 = nI 7 then jo16_may F o go gk r v1 v3 v4 S else
  if r 0 = nI 8 then jo8_may F o go gk r v1 v3 v4 S else
  if r 0 = nI 9 then jo18_may F o go gk r v1 v3 v4 S else
  none
noncomputable def jp_may (F : Nat) (o : Nat) (go gk : Nat) (x1 : Int32) (x3 : Int32) (S : jf_S) : Option (Int64 × jf_S) :=
  jx_ga x1 40 fun j1 => (S.2.2.2.2 o j1).bind fun r2 =>
    jx_ga x3 6 fun j3 =>
      jx_ga x3 6 fun j4 =>
        (jv_may F o go gk r2 x1 (S.2.2.1 o 3 j3) (S.2.2.1 o 8 j4) S).bind fun q5 =>
          (jp_all F o q5.2).bind fun q6 =>
            some (q5.1 &&& q6.1, q6.2)
noncomputable def jp_closed_b61 (F : Nat) (o : Nat) (go gk : Nat) (r16 : Int32 × Int64 × Int64 × jf_S → Option (Int64 × jf_S)) (r29 : Int32 × Int64 × Int64 × Int32 × jf_S → Option (Int64 × jf_S)) (x2 : Int32) (x3 : Int64) (x5 : Int64) (x7 : Int32) (S : jf_S) : Option (Int64 × jf_S) :=
  jx_nx (x7 + nI 1) fun y1 =>
    r29 (x2, x3, x5, y1, S)
noncomputable def jp_closed_L29 (F : Nat) (o : Nat) (go gk : Nat) (r16 : Int32 × Int64 × Int64 × jf_S → Option (Int64 × jf_S)) (r29 : Int32 × Int64 × Int64 × Int32 × jf_S → Option (Int64 × jf_S)) (x2 : Int32) (x3 : Int64) (x5 : Int64) (x7 : Int32) (S : jf_S) : Option (Int64 × jf_S) :=
  if (S.1 o 13) ≤ x7 then
    r16 (x2, x3, x5, S)
  else
    if (lg_cmp ((x5 >>> (x7.toInt64 &&& 63)) &&& (lN 1)) (lN 1)) = 0 then
      (jp_may F o go gk x7 x2 S).bind fun q3 =>
        jx_nx (x3 ||| q3.1) fun y4 =>
          jp_closed_b61 F o go gk r16 r29 x2 y4 x5 x7 q3.2
    else
      jp_closed_b61 F o go gk r16 r29 x2 x3 x5 x7 S
noncomputable def jp_closed_h29 (F : Nat) (o : Nat) (go gk : Nat) (r16 : Int32 × Int64 × Int64 × jf_S → Option (Int64 × jf_S)) : Nat → Int32 × Int64 × Int64 × Int32 × jf_S → Option (Int64 × jf_S) := jx_loop fun r (a : Int32 × Int64 × Int64 × Int32 × jf_S) => jp_closed_L29 F o go gk r16 r a.1 a.2.1 a.2.2.1 a.2.2.2.1 a.2.2.2.2
noncomputable def jp_closed_L16 (F : Nat) (o : Nat) (go gk : Nat) (r16 : Int32 × Int64 × Int64 × jf_S → Option (Int64 × jf_S)) (x2 : Int32) (x3 : Int64) (x5 : Int64) (S : jf_S) : Option (Int64 × jf_S) :=
  if (lg_cmp x3 x5) = 0 then
    some (x3, S)
  else
    jx_nx (nI 0) fun y2 =>
      jp_closed_h29 F o go gk r16 F (x2, x3, x3, y2, S)
noncomputable def jp_closed_h16 (F : Nat) (o : Nat) (go gk : Nat) : Nat → Int32 × Int64 × Int64 × jf_S → Option (Int64 × jf_S) := jx_loop fun r (a : Int32 × Int64 × Int64 × jf_S) => jp_closed_L16 F o go gk r a.1 a.2.1 a.2.2.1 a.2.2.2
noncomputable def jp_closed_b12 (F : Nat) (o : Nat) (go gk : Nat) (x2 : Int32) (k0 : Int64) (S : jf_S) : Option (Int64 × jf_S) :=
  jx_nx (lN 0) fun y1 =>
    jp_closed_h16 F o go gk F (x2, k0, y1, S)
noncomputable def jp_closed (F : Nat) (o : Nat) (go gk : Nat) (x2 : Int32) (S : jf_S) : Option (Int64 × jf_S) :=
  if (S.1 o 13) = 0 then
    jp_closed_b12 F o go gk x2 (lN 0) S
  else
    jp_closed_b12 F o go gk x2 (lN 1) S
noncomputable def jf_four_L3 (F : Nat) (r3 : Int32 × Int32 × jf_S → Option (jf_S)) (x1 : Int32) (x2 : Int32) (S : jf_S) : Option (jf_S) :=
  if x2 < 0 then
    some S
  else
    jx_ga (S.1 1 4) 400 fun j2 => jx_nx (jf_setA S 1 0 (upd (S.2.2.1 1 0) j2 (vp_nar .byte ((x1 >>> (x2 &&& 31)).toInt8.toInt32)))) fun S3 =>
      jx_nx (jf_setI S3 1 4 ((S3.1 1 4) + (nI 1))) fun S4 =>
        jx_nx (x2 + (-8 : Int32)) fun y5 =>
          r3 (x1, y5, S4)
noncomputable def jf_four_h3 (F : Nat) : Nat → Int32 × Int32 × jf_S → Option (jf_S) := jx_loop fun r (a : Int32 × Int32 × jf_S) => jf_four_L3 F r a.1 a.2.1 a.2.2
noncomputable def jf_four (F : Nat) (x1 : Int32) (S : jf_S) : Option (jf_S) :=
  jx_nx (nI 24) fun y1 =>
    jf_four_h3 F F (x1, y1, S)
noncomputable def jf_feed (F : Nat) (x1 : Int32) (x2 : Int32) (x3 : Int32) (x4 : Int32) (x5 : Int32) (S : jf_S) : Option (Int32 × jf_S) :=
  if ((S.1 1 4) + (nI 20)) ≤ (nI 400) then
    (jf_four F x1 S).bind fun q2 =>
      (jf_four F x2 q2).bind fun q3 =>
        (jf_four F x3 q3).bind fun q4 =>
          (jf_four F x4 q4).bind fun q5 =>
            (jf_four F x5 q5).bind fun q6 =>
              some (q6.1 1 4, q6)
  else
    some ((-1 : Int32), S)
noncomputable def jf_end (F : Nat) (x1 : Int32) (S : jf_S) : Option (Int32 × jf_S) :=
  (jf_isIn x1 (nI 0) (S.1 1 4)).bind fun q1 =>
    if q1 = 0 then
      some (nI 0, S)
    else
      jx_nx (jf_setI S 1 4 x1) fun S3 =>
        some (nI 1, S3)
noncomputable def jf_fault (F : Nat)  (S : jf_S) : Option (Int32 × jf_S) :=
  some (S.1 0 12, S)
noncomputable def jf_straight (F : Nat)  (S : jf_S) : Option (Int32 × jf_S) :=
  jx_nx (S.1 3 16) fun y1 =>
    jx_nx (jf_setI S 3 16 (nI 0)) fun S2 =>
      some (y1, S2)
noncomputable def jf_step (F : Nat) (x1 : Int32) (x2 : Int32) (S : jf_S) : Option (Int32 × jf_S) :=
  (jk_runs F x1 (nI 1) S).bind fun q1 =>
    (jf_isIn x2 (nI 0) ((q1.1 5 10) - (nI 1))).bind fun q2 =>
      if q2 = 0 then
        some ((-1 : Int32), q1)
      else
        jx_ga x2 300 fun j4 =>
          some (q1.2.2.1 5 6 j4, q1)
noncomputable def jf_said (F : Nat) (x1 : Int32) (x2 : Int32) (S : jf_S) : Option (Int32 × jf_S) :=
  (jk_runs F x1 (nI 1) S).bind fun q1 =>
    (jf_isIn x2 (nI 0) ((q1.1 5 12) - (nI 1))).bind fun q2 =>
      if q2 = 0 then
        some ((1000000 : Int32), q1)
      else
        jx_ga x2 300 fun j4 =>
          some (q1.2.2.1 5 7 j4, q1)
noncomputable def jo8_isJump (F : Nat) (x0 : jo_R) (S : jf_S) : Option (Int32 × jf_S) :=
  some (nI 0, S)
noncomputable def jo13_isJump (F : Nat) (x0 : jo_R) (S : jf_S) : Option (Int32 × jf_S) :=
  some (nI 1, S)
noncomputable def jo16_isJump (F : Nat) (x0 : jo_R) (S : jf_S) : Option (Int32 × jf_S) :=
  some (nI 1, S)
noncomputable def jv_isJump (F : Nat) (r : jo_R)  (S : jf_S) : Option (Int32 × jf_S) :=
  if r 0 = nI 0 then jo8_isJump F r  S else
  if r 0 = nI 1 then jo8_isJump F r  S else
  if r 0 = nI 2 then jo8_isJump F r  S else
  if r 0 = nI 3 then jo8_isJump F r  S else
  if r 0 = nI 4 then jo13_isJump F r  S else
  if r 0 = nI 5 then jo8_isJump F r  S else
  if r 0 = nI 6 then jo13_isJump F r  S else
  if r 0 = nI 7 then jo16_isJump F r  S else
  if r 0 = nI 8 then jo8_isJump F r  S else
  if r 0 = nI 9 then jo8_isJump F r  S else
  none
noncomputable def jf_isGuarded (F : Nat) (x1 : Int32) (S : jf_S) : Option (Int32 × jf_S) :=
  jx_ga x1 40 fun j1 => (S.2.2.2.2 3 j1).bind fun r2 =>
    (jv_isJump F r2 S).bind fun q3 =>
      if q3.1 = 0 then
        some (nI 0, q3.2)
      else
        jx_ga x1 40 fun j5 =>
          if (q3.2.2.2.1 3 1 j5) ≤ 0 then
            some (nI 0, q3.2)
          else
            some (nI 1, q3.2)
noncomputable def jf_letsOf (F : Nat) (x1 : Int32) (S : jf_S) : Option (Int64 × jf_S) :=
  jx_ga x1 40 fun j1 =>
    (jp_lets F 3 x1 (S.2.2.1 3 1 j1) S).bind fun q2 =>
      some (q2.1, q2.2)
noncomputable def jf_marks_b148 (F : Nat) (r7 : Int32 × Int64 × Int32 × jf_S → Option (Int32 × jf_S)) (r63 : Int32 × Int64 × Int32 × Int64 × Int64 × Int32 × jf_S → Option (Int32 × jf_S)) (r74 : Int32 × Int64 × Int32 × Int64 × Int64 × Int32 × Int32 × jf_S → Option (Int32 × jf_S)) (x1 : Int32) (x2 : Int64) (x4 : Int32) (x5 : Int64) (x7 : Int64) (x9 : Int32) (x10 : Int32) (S : jf_S) : Option (Int32 × jf_S) :=
  jx_nx (x10 + nI 1) fun y1 =>
    r74 (x1, x2, x4, x5, x7, x9, y1, S)
noncomputable def jf_marks_L74 (F : Nat) (r7 : Int32 × Int64 × Int32 × jf_S → Option (Int32 × jf_S)) (r63 : Int32 × Int64 × Int32 × Int64 × Int64 × Int32 × jf_S → Option (Int32 × jf_S)) (r74 : Int32 × Int64 × Int32 × Int64 × Int64 × Int32 × Int32 × jf_S → Option (Int32 × jf_S)) (x1 : Int32) (x2 : Int64) (x4 : Int32) (x5 : Int64) (x7 : Int64) (x9 : Int32) (x10 : Int32) (S : jf_S) : Option (Int32 × jf_S) :=
  if (S.1 3 13) ≤ x10 then
    r63 (x1, x2, x4, x5, x7, x9, S)
  else
    (jf_isGuarded F x10 S).bind fun q2 =>
      if q2.1 = 0 then
        jf_marks_b148 F r7 r63 r74 x1 x2 x4 x5 x7 x9 x10 q2.2
      else
        if (lg_cmp ((x5 >>> (x10.toInt64 &&& 63)) &&& (lN 1)) (lN 1)) = 0 then
          jf_marks_b148 F r7 r63 r74 x1 x2 x4 x5 x7 x9 x10 q2.2
        else
          (jf_letsOf F x10 q2.2).bind fun q5 =>
            if (lg_cmp (q5.1 &&& x7) (lN 0)) = 0 then
              jf_marks_b148 F r7 r63 r74 x1 x2 x4 x5 x7 x9 x10 q5.2
            else
              (jf_bit x10).bind fun q7 =>
                jx_nx (x5 ||| q7) fun y8 =>
                  (jf_letsOf F x10 q5.2).bind fun q9 =>
                    jx_nx (x7 ||| q9.1) fun y10 =>
                      jx_nx (nI 1) fun y11 =>
                        jf_marks_b148 F r7 r63 r74 x1 x2 x4 y8 y10 y11 x10 q9.2
noncomputable def jf_marks_h74 (F : Nat) (r7 : Int32 × Int64 × Int32 × jf_S → Option (Int32 × jf_S)) (r63 : Int32 × Int64 × Int32 × Int64 × Int64 × Int32 × jf_S → Option (Int32 × jf_S)) : Nat → Int32 × Int64 × Int32 × Int64 × Int64 × Int32 × Int32 × jf_S → Option (Int32 × jf_S) := jx_loop fun r (a : Int32 × Int64 × Int32 × Int64 × Int64 × Int32 × Int32 × jf_S) => jf_marks_L74 F r7 r63 r a.1 a.2.1 a.2.2.1 a.2.2.2.1 a.2.2.2.2.1 a.2.2.2.2.2.1 a.2.2.2.2.2.2.1 a.2.2.2.2.2.2.2
noncomputable def jf_marks_b162 (F : Nat) (r7 : Int32 × Int64 × Int32 × jf_S → Option (Int32 × jf_S)) (x1 : Int32) (x2 : Int64) (x4 : Int32) (S : jf_S) : Option (Int32 × jf_S) :=
  jx_nx (x4 + nI 1) fun y1 =>
    r7 (x1, x2, y1, S)
noncomputable def jf_marks_L63 (F : Nat) (r7 : Int32 × Int64 × Int32 × jf_S → Option (Int32 × jf_S)) (r63 : Int32 × Int64 × Int32 × Int64 × Int64 × Int32 × jf_S → Option (Int32 × jf_S)) (x1 : Int32) (x2 : Int64) (x4 : Int32) (x5 : Int64) (x7 : Int64) (x9 : Int32) (S : jf_S) : Option (Int32 × jf_S) :=
  if x9 = 0 then
    jx_nx (x2 ||| x5) fun y2 =>
      jf_marks_b162 F r7 x1 y2 x4 S
  else
    jx_nx (nI 0) fun y3 =>
      jx_nx (nI 0) fun y4 =>
        jf_marks_h74 F r7 r63 F (x1, x2, x4, x5, x7, y3, y4, S)
noncomputable def jf_marks_h63 (F : Nat) (r7 : Int32 × Int64 × Int32 × jf_S → Option (Int32 × jf_S)) : Nat → Int32 × Int64 × Int32 × Int64 × Int64 × Int32 × jf_S → Option (Int32 × jf_S) := jx_loop fun r (a : Int32 × Int64 × Int32 × Int64 × Int64 × Int32 × jf_S) => jf_marks_L63 F r7 r a.1 a.2.1 a.2.2.1 a.2.2.2.1 a.2.2.2.2.1 a.2.2.2.2.2.1 a.2.2.2.2.2.2
noncomputable def jf_marks_L7 (F : Nat) (r7 : Int32 × Int64 × Int32 × jf_S → Option (Int32 × jf_S)) (x1 : Int32) (x2 : Int64) (x4 : Int32) (S : jf_S) : Option (Int32 × jf_S) :=
  if (S.1 3 13) ≤ x4 then
    some (x1, S)
  else
    (jf_isGuarded F x4 S).bind fun q2 =>
      if q2.1 = 0 then
        jf_marks_b162 F r7 x1 x2 x4 q2.2
      else
        if (lg_cmp ((x2 >>> (x4.toInt64 &&& 63)) &&& (lN 1)) (lN 1)) = 0 then
          jf_marks_b162 F r7 x1 x2 x4 q2.2
        else
          jx_nx (x1 + nI 1) fun y5 =>
            (jf_bit x4).bind fun q6 =>
              (jf_letsOf F x4 q2.2).bind fun q7 =>
                jx_nx (q7.1) fun y8 =>
                  jx_nx (nI 1) fun y9 =>
                    jf_marks_h63 F r7 F (y5, x2, x4, q6, y8, y9, q7.2)
noncomputable def jf_marks_h7 (F : Nat) : Nat → Int32 × Int64 × Int32 × jf_S → Option (Int32 × jf_S) := jx_loop fun r (a : Int32 × Int64 × Int32 × jf_S) => jf_marks_L7 F r a.1 a.2.1 a.2.2.1 a.2.2.2
noncomputable def jf_marks (F : Nat)  (S : jf_S) : Option (Int32 × jf_S) :=
  jx_nx (nI 0) fun y1 =>
    jx_nx (lN 0) fun y2 =>
      jx_nx (nI 0) fun y3 =>
        jf_marks_h7 F F (y1, y2, y3, S)
noncomputable def jf_judge_L27 (F : Nat) (r27 : Int32 × Int32 × jf_S → Option (Int32 × jf_S)) (x1 : Int32) (x2 : Int32) (S : jf_S) : Option (Int32 × jf_S) :=
  if x1 ≤ x2 then
    some ((-1 : Int32), S)
  else
    if (S.1 5 10) ≤ x2 then
      some (x2, S)
    else
      jx_ga x2 400 fun j3 =>
        jx_ga x2 300 fun j4 =>
          if ((S.2.2.1 1 0 j3) &&& (nI 255)) = (S.2.2.1 5 6 j4) then
            jx_nx (x2 + nI 1) fun y6 =>
              r27 (x1, y6, S)
          else
            some (x2, S)
noncomputable def jf_judge_h27 (F : Nat) : Nat → Int32 × Int32 × jf_S → Option (Int32 × jf_S) := jx_loop fun r (a : Int32 × Int32 × jf_S) => jf_judge_L27 F r a.1 a.2.1 a.2.2
noncomputable def jf_judge (F : Nat)  (S : jf_S) : Option (Int32 × jf_S) :=
  jx_nx (S.1 1 4) fun y1 =>
    jx_nx (jf_setI S 1 4 (nI 0)) fun S2 =>
      (jk_runs F (nI 1) (nI 1) S2).bind fun q3 =>
        jx_nx (nI 0) fun y4 =>
          jf_judge_h27 F F (y1, y4, q3)
noncomputable def jf_finds_b47 (F : Nat) (r12 : Int32 × Int64 × Int32 × jf_S → Option (Int32 × jf_S)) (x1 : Int32) (x3 : Int64) (x5 : Int32) (k0 : Int32) (k1 : Int32) (S : jf_S) : Option (Int32 × jf_S) :=
  jx_ga k1 40 fun j1 => jx_nx (jf_setA S 0 4 (upd (S.2.2.1 0 4) j1 k0)) fun S2 =>
    jx_nx (x5 + nI 1) fun y3 =>
      r12 (x1, x3, y3, S2)
noncomputable def jf_finds_b167 (F : Nat) (r57 : Int32 × Int32 × jf_S → Option (Int32 × jf_S)) (r68 : Int32 × Int32 × Int32 × jf_S → Option (Int32 × jf_S)) (r102 : Int32 × Int32 × Int32 × Int64 × Int32 × jf_S → Option (Int32 × jf_S)) (x1 : Int32) (x5 : Int32) (x6 : Int32) (x7 : Int64) (x9 : Int32) (S : jf_S) : Option (Int32 × jf_S) :=
  jx_nx (x9 + nI 1) fun y1 =>
    r102 (x1, x5, x6, x7, y1, S)
noncomputable def jf_finds_L102 (F : Nat) (r57 : Int32 × Int32 × jf_S → Option (Int32 × jf_S)) (r68 : Int32 × Int32 × Int32 × jf_S → Option (Int32 × jf_S)) (r102 : Int32 × Int32 × Int32 × Int64 × Int32 × jf_S → Option (Int32 × jf_S)) (x1 : Int32) (x5 : Int32) (x6 : Int32) (x7 : Int64) (x9 : Int32) (S : jf_S) : Option (Int32 × jf_S) :=
  if (S.1 3 13) ≤ x9 then
    jx_nx (x6 + nI 1) fun y2 =>
      r68 (x1, x5, y2, S)
  else
    if (lg_cmp ((x7 >>> (x9.toInt64 &&& 63)) &&& (lN 1)) (lN 0)) = 0 then
      jf_finds_b167 F r57 r68 r102 x1 x5 x6 x7 x9 S
    else
      jx_ga x9 40 fun j4 =>
        jx_ga x6 40 fun j5 =>
          if ((S.2.2.1 0 4 j4) + (nI 1)) < (S.2.2.1 0 4 j5) then
            jx_ga x9 40 fun j7 =>
              jx_ga x6 40 fun j8 => jx_nx (jf_setA S 0 4 (upd (S.2.2.1 0 4) j8 ((S.2.2.1 0 4 j7) + (nI 1)))) fun S9 =>
                jx_nx (nI 1) fun y10 =>
                  jf_finds_b167 F r57 r68 r102 x1 y10 x6 x7 x9 S9
          else
            jf_finds_b167 F r57 r68 r102 x1 x5 x6 x7 x9 S
noncomputable def jf_finds_h102 (F : Nat) (r57 : Int32 × Int32 × jf_S → Option (Int32 × jf_S)) (r68 : Int32 × Int32 × Int32 × jf_S → Option (Int32 × jf_S)) : Nat → Int32 × Int32 × Int32 × Int64 × Int32 × jf_S → Option (Int32 × jf_S) := jx_loop fun r (a : Int32 × Int32 × Int32 × Int64 × Int32 × jf_S) => jf_finds_L102 F r57 r68 r a.1 a.2.1 a.2.2.1 a.2.2.2.1 a.2.2.2.2.1 a.2.2.2.2.2
noncomputable def jf_finds_L68 (F : Nat) (r57 : Int32 × Int32 × jf_S → Option (Int32 × jf_S)) (r68 : Int32 × Int32 × Int32 × jf_S → Option (Int32 × jf_S)) (x1 : Int32) (x5 : Int32) (x6 : Int32) (S : jf_S) : Option (Int32 × jf_S) :=
  if (S.1 3 13) ≤ x6 then
    r57 (x1, x5, S)
  else
    (jp_may F 3 3 1 x6 x1 S).bind fun q2 =>
      jx_nx (q2.1) fun y3 =>
        jx_nx (nI 0) fun y4 =>
          jf_finds_h102 F r57 r68 F (x1, x5, x6, y3, y4, q2.2)
noncomputable def jf_finds_h68 (F : Nat) (r57 : Int32 × Int32 × jf_S → Option (Int32 × jf_S)) : Nat → Int32 × Int32 × Int32 × jf_S → Option (Int32 × jf_S) := jx_loop fun r (a : Int32 × Int32 × Int32 × jf_S) => jf_finds_L68 F r57 r a.1 a.2.1 a.2.2.1 a.2.2.2
noncomputable def jf_finds_b288 (F : Nat) (r225 : Int32 × Int32 × jf_S → Option (Int32 × jf_S)) (r257 : Int32 × Int32 × Int64 × Int32 × jf_S → Option (Int32 × jf_S)) (x1 : Int32) (x6 : Int32) (x7 : Int64) (x9 : Int32) (S : jf_S) : Option (Int32 × jf_S) :=
  jx_nx (x9 + nI 1) fun y1 =>
    r257 (x1, x6, x7, y1, S)
noncomputable def jf_finds_L257 (F : Nat) (r225 : Int32 × Int32 × jf_S → Option (Int32 × jf_S)) (r257 : Int32 × Int32 × Int64 × Int32 × jf_S → Option (Int32 × jf_S)) (x1 : Int32) (x6 : Int32) (x7 : Int64) (x9 : Int32) (S : jf_S) : Option (Int32 × jf_S) :=
  if (lg_cmp ((x7 >>> (x9.toInt64 &&& 63)) &&& (lN 1)) (lN 0)) = 0 then
    jf_finds_b288 F r225 r257 x1 x6 x7 x9 S
  else
    jx_ga x9 40 fun j2 =>
      jx_ga x6 40 fun j3 =>
        if (S.2.2.1 0 4 j2) = ((S.2.2.1 0 4 j3) - (nI 1)) then
          jx_ga (S.1 0 10) 40 fun j5 => jx_nx (jf_setA S 0 5 (upd (S.2.2.1 0 5) j5 x9)) fun S6 =>
            jx_nx (jf_setI S6 0 10 ((S6.1 0 10) + (nI 1))) fun S7 =>
              r225 (x1, x9, S7)
        else
          jf_finds_b288 F r225 r257 x1 x6 x7 x9 S
noncomputable def jf_finds_h257 (F : Nat) (r225 : Int32 × Int32 × jf_S → Option (Int32 × jf_S)) : Nat → Int32 × Int32 × Int64 × Int32 × jf_S → Option (Int32 × jf_S) := jx_loop fun r (a : Int32 × Int32 × Int64 × Int32 × jf_S) => jf_finds_L257 F r225 r a.1 a.2.1 a.2.2.1 a.2.2.2.1 a.2.2.2.2
noncomputable def jf_finds_L225 (F : Nat) (r225 : Int32 × Int32 × jf_S → Option (Int32 × jf_S)) (x1 : Int32) (x6 : Int32) (S : jf_S) : Option (Int32 × jf_S) :=
  jx_ga x6 40 fun j1 =>
    if (S.2.2.1 0 4 j1) ≤ 0 then
      some (nI 1, S)
    else
      (jp_may F 3 3 1 x6 x1 S).bind fun q3 =>
        jx_nx (q3.1) fun y4 =>
          jx_nx (nI 0) fun y5 =>
            jf_finds_h257 F r225 F (x1, x6, y4, y5, q3.2)
noncomputable def jf_finds_h225 (F : Nat) : Nat → Int32 × Int32 × jf_S → Option (Int32 × jf_S) := jx_loop fun r (a : Int32 × Int32 × jf_S) => jf_finds_L225 F r a.1 a.2.1 a.2.2
noncomputable def jf_finds_L57 (F : Nat) (r57 : Int32 × Int32 × jf_S → Option (Int32 × jf_S)) (x1 : Int32) (x5 : Int32) (S : jf_S) : Option (Int32 × jf_S) :=
  if x5 = 0 then
    jx_nx (jf_setI S 0 10 (nI 0)) fun S2 =>
      if (S2.1 3 13) = 0 then
        some (nI 0, S2)
      else
        jx_ga (nI 0) 40 fun j4 =>
          if (S2.2.2.1 0 4 j4) = (nI 40) then
            some (nI 0, S2)
          else
            jx_nx (nI 0) fun y6 =>
              jx_ga (nI 0) 40 fun j7 => jx_nx (jf_setA S2 0 5 (upd (S2.2.2.1 0 5) j7 (nI 0))) fun S8 =>
                jx_nx (jf_setI S8 0 10 (nI 1)) fun S9 =>
                  jf_finds_h225 F F (x1, y6, S9)
  else
    jx_nx (nI 0) fun y10 =>
      jx_nx (nI 0) fun y11 =>
        jf_finds_h68 F r57 F (x1, y10, y11, S)
noncomputable def jf_finds_h57 (F : Nat) : Nat → Int32 × Int32 × jf_S → Option (Int32 × jf_S) := jx_loop fun r (a : Int32 × Int32 × jf_S) => jf_finds_L57 F r a.1 a.2.1 a.2.2
noncomputable def jf_finds_L12 (F : Nat) (r12 : Int32 × Int64 × Int32 × jf_S → Option (Int32 × jf_S)) (x1 : Int32) (x3 : Int64) (x5 : Int32) (S : jf_S) : Option (Int32 × jf_S) :=
  if (S.1 3 13) ≤ x5 then
    jx_nx (nI 1) fun y2 =>
      jf_finds_h57 F F (x1, y2, S)
  else
    if (lg_cmp ((x3 >>> (x5.toInt64 &&& 63)) &&& (lN 1)) (lN 1)) = 0 then
      jf_finds_b47 F r12 x1 x3 x5 (nI 0) x5 S
    else
      jf_finds_b47 F r12 x1 x3 x5 (nI 40) x5 S
noncomputable def jf_finds_h12 (F : Nat) : Nat → Int32 × Int64 × Int32 × jf_S → Option (Int32 × jf_S) := jx_loop fun r (a : Int32 × Int64 × Int32 × jf_S) => jf_finds_L12 F r a.1 a.2.1 a.2.2.1 a.2.2.2
noncomputable def jf_finds (F : Nat) (x1 : Int32) (x2 : Int32) (S : jf_S) : Option (Int32 × jf_S) :=
  (jp_doors F 3 x2 S).bind fun q1 =>
    jx_nx (q1.1) fun y2 =>
      jx_nx (nI 0) fun y3 =>
        jf_finds_h12 F F (x1, y2, y3, q1.2)
noncomputable def jf_can (F : Nat) (x1 : Int32) (x2 : Int32) (S : jf_S) : Option (Int32 × jf_S) :=
  if x2 = (-1 : Int32) then
    some (nI 0, S)
  else
    jx_ga x1 6 fun j2 =>
      if (((S.2.2.1 3 3 j2) >>> (x2 &&& 31)) &&& (nI 1)) = (nI 1) then
        some (nI 1, S)
      else
        some (nI 0, S)
noncomputable def jo12_needs_b27 (F : Nat) (x0 : jo_R) (x1 : Int32) (x2 : Int32) (x3 : Int32) (k0 : Int32) (S : jf_S) : Option (Int32 × jf_S) :=
  if (x0 8) = (nI 61) then
    if x2 = 0 then
      some (x3 + (nI 1), S)
    else
      some (x3, S)
  else
    if x2 = 0 then
      some (x3, S)
    else
      if x1 = 0 then
        some (x3 + k0, S)
      else
        some (x3 - k0, S)
noncomputable def jo12_needs (F : Nat) (x0 : jo_R) (x1 : Int32) (x2 : Int32) (x3 : Int32) (S : jf_S) : Option (Int32 × jf_S) :=
  if (x0 8) = (nI 60) then
    jo12_needs_b27 F x0 x1 x2 x3 (-1 : Int32) S
  else
    if (x0 8) = (nI 62) then
      jo12_needs_b27 F x0 x1 x2 x3 (nI 1) S
    else
      jo12_needs_b27 F x0 x1 x2 x3 (nI 0) S
noncomputable def jf_bends_b53 (F : Nat) (x1 : Int32) (x5 : jo_R) (k0 : Int32) (S : jf_S) : Option (jf_S) :=
  (ja_of F (x5 6) S).bind fun q2 =>
    jx_nx (q2.1) fun y4 =>
      (ja_of F (x5 7) q2.2).bind fun q6 =>
        jx_nx (q6.1) fun y8 =>
          (jf_ifHolds y4 (x5 8) y8).bind fun q10 =>
            if q10 = k0 then
              some q6.2
            else
              (jf_can F x1 (jo_ac (x5 6)) q6.2).bind fun q14 =>
                if q14.1 = 0 then
                  (jf_can F x1 (jo_ac (x5 7)) q14.2).bind fun q18 =>
                    if q18.1 = 0 then
                      some q18.2
                    else
                      (jo12_needs F x5 (nI 1) k0 y4 q18.2).bind fun q22 =>
                        jx_ga (jo_ac (x5 7)) 16 fun j24 => jx_nx (jf_setA q22.2 5 1 (upd (q22.2.2.2.1 5 1) j24 q22.1)) fun S25 =>
                          some S25
                else
                  (jo12_needs F x5 (nI 0) k0 y8 q14.2).bind fun q28 =>
                    jx_ga (jo_ac (x5 6)) 16 fun j30 => jx_nx (jf_setA q28.2 5 1 (upd (q28.2.2.2.1 5 1) j30 q28.1)) fun S31 =>
                      some S31
noncomputable def jf_bends (F : Nat) (x1 : Int32) (x2 : Int32) (x3 : Int32) (S : jf_S) : Option (jf_S) :=
  jx_ga x2 40 fun j1 => (S.2.2.2.2 3 j1).bind fun r2 =>
    (jv_word F r2 S).bind fun q3 =>
      if q3.1 = (nI 3) then
        jx_ge (r2 0) (nI 3) <|
          if (r2 4) = (x2 + (nI 1)) then
            some q3.2
          else
            if x3 = (r2 4) then
              jf_bends_b53 F x1 r2 (nI 1) q3.2
            else
              jf_bends_b53 F x1 r2 (nI 0) q3.2
      else
        (jv_cell F r2 q3.2).bind fun q5 =>
          if q5.1 = (-1 : Int32) then
            (jv_word F r2 q5.2).bind fun q7 =>
              if q7.1 = (nI 7) then
                if (q7.2.1 5 8) ≤ 0 then
                  some q7.2
                else
                  jx_ga x1 6 fun j10 =>
                    if (q7.2.2.2.1 3 8 j10) = 0 then
                      some q7.2
                    else
                      jx_ga ((q7.2.1 5 8) - (nI 1)) 8 fun j12 => jx_nx (jf_setA q7.2 5 3 (upd (q7.2.2.2.1 5 3) j12 x3)) fun S13 =>
                        some S13
              else
                some q7.2
          else
            (jv_cell F r2 q5.2).bind fun q14 =>
              (jf_can F x1 q14.1 q14.2).bind fun q15 =>
                if q15.1 = 0 then
                  some q15.2
                else
                  (jv_cell F r2 q15.2).bind fun q17 =>
                    jx_ga q17.1 16 fun j18 => jx_nx (jf_setA q17.2 5 1 (upd (q17.2.2.2.1 5 1) j18 x3)) fun S19 =>
                      some S19
noncomputable def jf_tried_b133 (F : Nat) (r17 : Int32 × Int32 × Int32 × jf_S → Option (Int32 × jf_S)) (x1 : Int32) (x2 : Int32) (x3 : Int32) (k0 : Int32) (S : jf_S) : Option (Int32 × jf_S) :=
  (jk_step F S).bind fun q1 =>
    if q1.1 = 0 then
      some (nI 0, q1.2)
    else
      jx_ga (x3 + (nI 1)) 40 fun j3 =>
        if (q1.2.1 5 9) = (q1.2.2.2.1 0 5 j3) then
          if k0 = 0 then
            some (nI 0, q1.2)
          else
            jx_nx (x3 + nI 1) fun y6 =>
              r17 (x1, x2, y6, q1.2)
        else
          some (nI 0, q1.2)
noncomputable def jf_tried_b128 (F : Nat) (r17 : Int32 × Int32 × Int32 × jf_S → Option (Int32 × jf_S)) (x1 : Int32) (x2 : Int32) (x3 : Int32) (S : jf_S) : Option (Int32 × jf_S) :=
  jf_tried_b133 F r17 x1 x2 x3 (nI 1) S
noncomputable def jf_tried_L17 (F : Nat) (r17 : Int32 × Int32 × Int32 × jf_S → Option (Int32 × jf_S)) (x1 : Int32) (x2 : Int32) (x3 : Int32) (S : jf_S) : Option (Int32 × jf_S) :=
  if (S.1 0 10) ≤ (x3 + (nI 1)) then
    jx_ga ((S.1 0 10) - (nI 1)) 40 fun j2 =>
      jx_ga (S.2.2.1 0 5 j2) 40 fun j3 => (S.2.2.2.2 3 j3).bind fun r4 =>
        jx_ge (r4 0) (nI 8) <|
          (ja_of F (r4 6) S).bind fun q9 =>
            if q9.1 = x2 then
              some (nI 1, q9.2)
            else
              (jf_can F x1 (jo_ac (r4 6)) q9.2).bind fun q14 =>
                if q14.1 = 0 then
                  some (nI 0, q14.2)
                else
                  some (nI 1, q14.2)
  else
    jx_ga x3 40 fun j16 =>
      jx_ga (S.2.2.1 0 5 j16) 40 fun j17 => (S.2.2.2.2 3 j17).bind fun r18 =>
        jx_ga x3 40 fun j19 =>
          jx_ga (x3 + (nI 1)) 40 fun j20 =>
            (jf_bends F x1 (S.2.2.1 0 5 j19) (S.2.2.1 0 5 j20) S).bind fun q21 =>
              (jv_word F r18 q21).bind fun q22 =>
                if q22.1 = (nI 7) then
                  jx_ga x3 40 fun j24 =>
                    jx_ga (q22.2.2.2.1 0 5 j24) 40 fun j25 =>
                      if (q22.2.2.2.1 3 1 j25) < (nI 3) then
                        jf_tried_b128 F r17 x1 x2 x3 q22.2
                      else
                        if (q22.2.1 5 8) = 0 then
                          jf_tried_b128 F r17 x1 x2 x3 q22.2
                        else
                          jx_ga ((q22.2.1 5 8) - (nI 1)) 8 fun j28 =>
                            jx_ga (x3 + (nI 1)) 40 fun j29 =>
                              if (q22.2.2.2.1 5 4 j28) = (q22.2.2.2.1 0 5 j29) then
                                jf_tried_b128 F r17 x1 x2 x3 q22.2
                              else
                                jf_tried_b133 F r17 x1 x2 x3 (nI 0) q22.2
                else
                  jf_tried_b128 F r17 x1 x2 x3 q22.2
noncomputable def jf_tried_h17 (F : Nat) : Nat → Int32 × Int32 × Int32 × jf_S → Option (Int32 × jf_S) := jx_loop fun r (a : Int32 × Int32 × Int32 × jf_S) => jf_tried_L17 F r a.1 a.2.1 a.2.2.1 a.2.2.2
noncomputable def jf_tried (F : Nat) (x1 : Int32) (x2 : Int32) (S : jf_S) : Option (Int32 × jf_S) :=
  (jk_begins F S).bind fun q1 =>
    jx_nx (jf_setI q1 5 18 (nI 0)) fun S2 =>
      jx_nx (nI 0) fun y3 =>
        jf_tried_h17 F F (x1, x2, y3, S2)
noncomputable def jf_reaches (F : Nat) (x1 : Int32) (x2 : Int32) (S : jf_S) : Option (Int32 × jf_S) :=
  (jf_finds F x1 x2 S).bind fun q1 =>
    if q1.1 = 0 then
      some (nI 0, q1.2)
    else
      jx_ga x2 8 fun j3 =>
        (jf_tried F x1 (q1.2.2.2.1 3 4 j3) q1.2).bind fun q4 =>
          if q4.1 = 0 then
            some (nI 2, q4.2)
          else
            some (nI 1, q4.2)
noncomputable def jf_count_b98 (F : Nat) (r66 : Int32 × Int32 × jf_S → Option (Int32 × jf_S)) (x3 : Int32) (k0 : Int32) (k1 : Int32) (S : jf_S) : Option (Int32 × jf_S) :=
  jx_nx (k1 + k0) fun y1 =>
    jx_nx (x3 + nI 1) fun y2 =>
      r66 (y1, y2, S)
noncomputable def jf_count_L66 (F : Nat) (r66 : Int32 × Int32 × jf_S → Option (Int32 × jf_S)) (x2 : Int32) (x3 : Int32) (S : jf_S) : Option (Int32 × jf_S) :=
  if (S.1 3 13) ≤ x3 then
    some (x2, S)
  else
    jx_ga x3 40 fun j2 => (S.2.2.2.2 3 j2).bind fun r3 =>
      (jv_isJump F r3 S).bind fun q4 =>
        if q4.1 = 0 then
          jf_count_b98 F r66 x3 (nI 0) x2 q4.2
        else
          jf_count_b98 F r66 x3 (nI 1) x2 q4.2
noncomputable def jf_count_h66 (F : Nat) : Nat → Int32 × Int32 × jf_S → Option (Int32 × jf_S) := jx_loop fun r (a : Int32 × Int32 × jf_S) => jf_count_L66 F r a.1 a.2.1 a.2.2
noncomputable def jf_count_b135 (F : Nat) (r110 : Int32 × Int32 × jf_S → Option (Int32 × jf_S)) (x3 : Int32) (k0 : Int32) (k1 : Int32) (S : jf_S) : Option (Int32 × jf_S) :=
  jx_nx (k1 + k0) fun y1 =>
    jx_nx (x3 + nI 1) fun y2 =>
      r110 (y1, y2, S)
noncomputable def jf_count_L110 (F : Nat) (r110 : Int32 × Int32 × jf_S → Option (Int32 × jf_S)) (x2 : Int32) (x3 : Int32) (S : jf_S) : Option (Int32 × jf_S) :=
  if (S.1 3 13) ≤ x3 then
    some (x2, S)
  else
    (jf_isGuarded F x3 S).bind fun q2 =>
      if q2.1 = 0 then
        jf_count_b135 F r110 x3 (nI 0) x2 q2.2
      else
        jf_count_b135 F r110 x3 (nI 1) x2 q2.2
noncomputable def jf_count_h110 (F : Nat) : Nat → Int32 × Int32 × jf_S → Option (Int32 × jf_S) := jx_loop fun r (a : Int32 × Int32 × jf_S) => jf_count_L110 F r a.1 a.2.1 a.2.2
noncomputable def jf_count_b204 (F : Nat) (r171 : Int32 × Int32 × jf_S → Option (Int32 × jf_S)) (x3 : Int32) (k0 : Int32) (k1 : Int32) (S : jf_S) : Option (Int32 × jf_S) :=
  jx_nx (k1 + k0) fun y1 =>
    jx_nx (x3 + nI 1) fun y2 =>
      r171 (y1, y2, S)
noncomputable def jf_count_L171 (F : Nat) (r171 : Int32 × Int32 × jf_S → Option (Int32 × jf_S)) (x2 : Int32) (x3 : Int32) (S : jf_S) : Option (Int32 × jf_S) :=
  if (S.1 3 13) ≤ x3 then
    some (x2, S)
  else
    jx_ga x3 40 fun j2 => (S.2.2.2.2 3 j2).bind fun r3 =>
      if (r3 1) = (-1 : Int32) then
        jf_count_b204 F r171 x3 (nI 0) x2 S
      else
        jf_count_b204 F r171 x3 (nI 1) x2 S
noncomputable def jf_count_h171 (F : Nat) : Nat → Int32 × Int32 × jf_S → Option (Int32 × jf_S) := jx_loop fun r (a : Int32 × Int32 × jf_S) => jf_count_L171 F r a.1 a.2.1 a.2.2
noncomputable def jf_count_b273 (F : Nat) (r227 : Int32 × Int32 × Int32 × jf_S → Option (Int32 × jf_S)) (r241 : Int32 × Int32 × Int32 × Int32 × jf_S → Option (Int32 × jf_S)) (x1 : Int32) (x3 : Int32) (x4 : Int32) (k0 : Int32) (k1 : Int32) (S : jf_S) : Option (Int32 × jf_S) :=
  jx_nx (k1 + k0) fun y1 =>
    jx_nx (x4 + nI 1) fun y2 =>
      r241 (x1, y1, x3, y2, S)
noncomputable def jf_count_L241 (F : Nat) (r227 : Int32 × Int32 × Int32 × jf_S → Option (Int32 × jf_S)) (r241 : Int32 × Int32 × Int32 × Int32 × jf_S → Option (Int32 × jf_S)) (x1 : Int32) (x2 : Int32) (x3 : Int32) (x4 : Int32) (S : jf_S) : Option (Int32 × jf_S) :=
  if (S.1 3 15) ≤ x4 then
    jx_nx (x3 + nI 1) fun y2 =>
      r227 (x1, x2, y2, S)
  else
    (jf_reaches F x3 x4 S).bind fun q3 =>
      if q3.1 = (x1 - (nI 8)) then
        jf_count_b273 F r227 r241 x1 x3 x4 (nI 1) x2 q3.2
      else
        jf_count_b273 F r227 r241 x1 x3 x4 (nI 0) x2 q3.2
noncomputable def jf_count_h241 (F : Nat) (r227 : Int32 × Int32 × Int32 × jf_S → Option (Int32 × jf_S)) : Nat → Int32 × Int32 × Int32 × Int32 × jf_S → Option (Int32 × jf_S) := jx_loop fun r (a : Int32 × Int32 × Int32 × Int32 × jf_S) => jf_count_L241 F r227 r a.1 a.2.1 a.2.2.1 a.2.2.2.1 a.2.2.2.2
noncomputable def jf_count_L227 (F : Nat) (r227 : Int32 × Int32 × Int32 × jf_S → Option (Int32 × jf_S)) (x1 : Int32) (x2 : Int32) (x3 : Int32) (S : jf_S) : Option (Int32 × jf_S) :=
  if (S.1 3 14) ≤ x3 then
    some (x2, S)
  else
    jx_nx (nI 0) fun y2 =>
      jf_count_h241 F r227 F (x1, x2, x3, y2, S)
noncomputable def jf_count_h227 (F : Nat) : Nat → Int32 × Int32 × Int32 × jf_S → Option (Int32 × jf_S) := jx_loop fun r (a : Int32 × Int32 × Int32 × jf_S) => jf_count_L227 F r a.1 a.2.1 a.2.2.1 a.2.2.2
noncomputable def jf_count_b225 (F : Nat) (x1 : Int32) (x2 : Int32) (S : jf_S) : Option (Int32 × jf_S) :=
  jx_nx (nI 0) fun y1 =>
    jf_count_h227 F F (x1, x2, y1, S)
noncomputable def jf_count (F : Nat) (x1 : Int32) (S : jf_S) : Option (Int32 × jf_S) :=
  jx_nx (nI 0) fun y1 =>
    if x1 = nI 0 then
      some (S.1 3 13, S)
    else
      if x1 = nI 1 then
        jx_nx (nI 0) fun y2 =>
          jf_count_h66 F F (y1, y2, S)
      else
        if x1 = nI 2 then
          jx_nx (nI 0) fun y3 =>
            jf_count_h110 F F (y1, y3, S)
        else
          if x1 = nI 3 then
            some (S.1 3 16, S)
          else
            if x1 = nI 4 then
              some (S.1 3 14, S)
            else
              if x1 = nI 5 then
                some (S.1 3 15, S)
              else
                if x1 = nI 6 then
                  jx_nx (nI 0) fun y4 =>
                    jf_count_h171 F F (y1, y4, S)
                else
                  if x1 = nI 7 then
                    (jx_ibits (S.1 3 17)).bind fun q5 =>
                      some (q5, S)
                  else
                    if x1 = nI 8 then
                      jf_count_b225 F x1 y1 S
                    else
                      if x1 = nI 9 then
                        jf_count_b225 F x1 y1 S
                      else
                        some ((-1 : Int32), S)
noncomputable def jf_chooses_L104 (F : Nat) (rc : Int32 × Int32 × Int64 × Int32 × jf_S → Option (jf_S)) (r104 : Int32 × Int32 × Int64 × Int32 × Int32 × Int32 × jf_S → Option (jf_S)) (x1 : Int32) (x2 : Int32) (x3 : Int64) (x5 : Int32) (x6 : Int32) (x7 : Int32) (S : jf_S) : Option (jf_S) :=
  if x6 < x7 then
    some S
  else
    jx_ga x1 6 fun j2 =>
      jx_ga (S.2.2.1 0 8 j2) 40 fun j3 => jx_nx (jf_setA S 0 6 (upd (S.2.2.1 0 6) j3 x7)) fun S4 =>
        jx_ga x7 4 fun j5 =>
          (rc (x1 + (nI 1), x2, x3, x5 + (S4.2.2.1 3 2 j5), S4)).bind fun q6 =>
            jx_nx (x7 + nI 1) fun y7 =>
              r104 (x1, x2, x3, x5, x6, y7, q6)
noncomputable def jf_chooses_h104 (F : Nat) (rc : Int32 × Int32 × Int64 × Int32 × jf_S → Option (jf_S)) : Nat → Int32 × Int32 × Int64 × Int32 × Int32 × Int32 × jf_S → Option (jf_S) := jx_loop fun r (a : Int32 × Int32 × Int64 × Int32 × Int32 × Int32 × jf_S) => jf_chooses_L104 F rc r a.1 a.2.1 a.2.2.1 a.2.2.2.1 a.2.2.2.2.1 a.2.2.2.2.2.1 a.2.2.2.2.2.2
noncomputable def jf_chooses_b99 (F : Nat) (rc : Int32 × Int32 × Int64 × Int32 × jf_S → Option (jf_S)) (x1 : Int32) (x2 : Int32) (x3 : Int64) (x5 : Int32) (k0 : Int32) (S : jf_S) : Option (jf_S) :=
  jx_nx (nI 0) fun y1 =>
    jf_chooses_h104 F rc F (x1, x2, x3, x5, k0, y1, S)
noncomputable def jf_chooses_b17 (F : Nat) (rc : Int32 × Int32 × Int64 × Int32 × jf_S → Option (jf_S)) (x1 : Int32) (x2 : Int32) (x3 : Int64) (x5 : Int32) (S : jf_S) : Option (jf_S) :=
  if x1 = (S.1 0 11) then
    (jp_closed F 3 0 6 x2 S).bind fun q7 =>
      if (lg_cmp (q7.1 &&& x3) (lN 0)) = 0 then
        jx_nx (jf_setI q7.2 0 14 (nI 1)) fun S9 =>
          jx_nx (jf_setI S9 0 13 x5) fun S10 =>
            jx_nx (jf_setA S10 0 7 (va_cpy (S10.2.2.1 0 6) (S10.2.2.1 0 7) 0 0 40)) fun S11 =>
              some S11
      else
        some q7.2
  else
    jx_ga x1 6 fun j2 =>
      jx_ga (S.2.2.1 0 8 j2) 40 fun j3 => (S.2.2.2.2 3 j3).bind fun r4 =>
        (jv_word F r4 S).bind fun q5 =>
          if q5.1 = (nI 7) then
            jf_chooses_b99 F rc x1 x2 x3 x5 (nI 3) q5.2
          else
            jf_chooses_b99 F rc x1 x2 x3 x5 (nI 2) q5.2
noncomputable def jf_chooses_B (F : Nat) (rc : Int32 × Int32 × Int64 × Int32 × jf_S → Option (jf_S)) (x1 : Int32) (x2 : Int32) (x3 : Int64) (x5 : Int32) (S : jf_S) : Option (jf_S) :=
  if (S.1 0 14) = 0 then
    jf_chooses_b17 F rc x1 x2 x3 x5 S
  else
    if x5 < (S.1 0 13) then
      jf_chooses_b17 F rc x1 x2 x3 x5 S
    else
      some S
noncomputable def jf_chooses (F : Nat) (d : Nat) (x1 : Int32) (x2 : Int32) (x3 : Int64) (x5 : Int32) (S : jf_S) : Option (jf_S) := jx_loop (fun rc (a : Int32 × Int32 × Int64 × Int32 × jf_S) => jf_chooses_B F rc a.1 a.2.1 a.2.2.1 a.2.2.2.1 a.2.2.2.2) d (x1, x2, x3, x5, S)
noncomputable def jf_more_b60 (F : Nat) (r2 : Int32 × Int32 × jf_S → Option (Int32 × jf_S)) (r12 : Int32 × Int32 × Int32 × jf_S → Option (Int32 × jf_S)) (x1 : Int32) (x2 : Int32) (x3 : Int32) (S : jf_S) : Option (Int32 × jf_S) :=
  jx_nx (x3 + nI 1) fun y1 =>
    r12 (x1, x2, y1, S)
noncomputable def jf_more_L12 (F : Nat) (r2 : Int32 × Int32 × jf_S → Option (Int32 × jf_S)) (r12 : Int32 × Int32 × Int32 × jf_S → Option (Int32 × jf_S)) (x1 : Int32) (x2 : Int32) (x3 : Int32) (S : jf_S) : Option (Int32 × jf_S) :=
  if x2 ≤ x3 then
    jx_nx (x2 + nI 1) fun y2 =>
      r2 (x1, y2, S)
  else
    jx_ga x2 6 fun j3 =>
      jx_ga x3 6 fun j4 =>
        if (S.2.2.1 0 9 j3) = (S.2.2.1 0 9 j4) then
          jf_more_b60 F r2 r12 x1 x2 x3 S
        else
          jx_ga x2 6 fun j6 =>
            (jf_letsOf F (S.2.2.1 0 8 j6) S).bind fun q7 =>
              jx_ga x3 6 fun j8 =>
                (jf_letsOf F (q7.2.2.2.1 0 8 j8) q7.2).bind fun q9 =>
                  if (lg_cmp (q7.1 &&& q9.1) (lN 0)) = 0 then
                    jf_more_b60 F r2 r12 x1 x2 x3 q9.2
                  else
                    some ((-1 : Int32), q9.2)
noncomputable def jf_more_h12 (F : Nat) (r2 : Int32 × Int32 × jf_S → Option (Int32 × jf_S)) : Nat → Int32 × Int32 × Int32 × jf_S → Option (Int32 × jf_S) := jx_loop fun r (a : Int32 × Int32 × Int32 × jf_S) => jf_more_L12 F r2 r a.1 a.2.1 a.2.2.1 a.2.2.2
noncomputable def jf_more_b124 (F : Nat) (r76 : Int32 × Int32 × Int32 × jf_S → Option (Int32 × jf_S)) (r87 : Int32 × Int32 × Int32 × Int64 × Int32 × jf_S → Option (Int32 × jf_S)) (x1 : Int32) (x2 : Int32) (x3 : Int32) (x6 : Int32) (k0 : Int64) (k1 : Int64) (S : jf_S) : Option (Int32 × jf_S) :=
  jx_nx (k1 ||| k0) fun y1 =>
    jx_nx (x6 + nI 1) fun y2 =>
      r87 (x1, x2, x3, y1, y2, S)
noncomputable def jf_more_b181 (F : Nat) (r76 : Int32 × Int32 × Int32 × jf_S → Option (Int32 × jf_S)) (r136 : Int32 × Int32 × Int32 × Int64 × Int32 × jf_S → Option (Int32 × jf_S)) (x1 : Int32) (x3 : Int32) (x4 : Int64) (x6 : Int32) (k0 : Int32) (k1 : Int32) (S : jf_S) : Option (Int32 × jf_S) :=
  jx_nx (k1 + k0) fun y1 =>
    jx_nx (x6 + nI 1) fun y2 =>
      r136 (x1, y1, x3, x4, y2, S)
noncomputable def jf_more_L136 (F : Nat) (r76 : Int32 × Int32 × Int32 × jf_S → Option (Int32 × jf_S)) (r136 : Int32 × Int32 × Int32 × Int64 × Int32 × jf_S → Option (Int32 × jf_S)) (x1 : Int32) (x2 : Int32) (x3 : Int32) (x4 : Int64) (x6 : Int32) (S : jf_S) : Option (Int32 × jf_S) :=
  if (S.1 0 11) ≤ x6 then
    jx_nx (x3 + nI 1) fun y2 =>
      r76 (x1, x2, y2, S)
  else
    jx_ga x6 6 fun j3 =>
      if (S.2.2.1 0 9 j3) = x3 then
        (jx_lbits x4).bind fun q5 =>
          jx_ga x6 6 fun j6 =>
            (jf_letsOf F (S.2.2.1 0 8 j6) S).bind fun q7 =>
              (jx_lbits q7.1).bind fun q8 =>
                jf_more_b181 F r76 r136 x1 x3 x4 x6 (q5 - q8) x2 q7.2
      else
        jf_more_b181 F r76 r136 x1 x3 x4 x6 (nI 0) x2 S
noncomputable def jf_more_h136 (F : Nat) (r76 : Int32 × Int32 × Int32 × jf_S → Option (Int32 × jf_S)) : Nat → Int32 × Int32 × Int32 × Int64 × Int32 × jf_S → Option (Int32 × jf_S) := jx_loop fun r (a : Int32 × Int32 × Int32 × Int64 × Int32 × jf_S) => jf_more_L136 F r76 r a.1 a.2.1 a.2.2.1 a.2.2.2.1 a.2.2.2.2.1 a.2.2.2.2.2
noncomputable def jf_more_L87 (F : Nat) (r76 : Int32 × Int32 × Int32 × jf_S → Option (Int32 × jf_S)) (r87 : Int32 × Int32 × Int32 × Int64 × Int32 × jf_S → Option (Int32 × jf_S)) (x1 : Int32) (x2 : Int32) (x3 : Int32) (x4 : Int64) (x6 : Int32) (S : jf_S) : Option (Int32 × jf_S) :=
  if (S.1 0 11) ≤ x6 then
    jx_nx (nI 0) fun y2 =>
      jf_more_h136 F r76 F (x1, x2, x3, x4, y2, S)
  else
    jx_ga x6 6 fun j3 =>
      if (S.2.2.1 0 9 j3) = x3 then
        jx_ga x6 6 fun j5 =>
          (jf_letsOf F (S.2.2.1 0 8 j5) S).bind fun q6 =>
            jf_more_b124 F r76 r87 x1 x2 x3 x6 q6.1 x4 q6.2
      else
        jf_more_b124 F r76 r87 x1 x2 x3 x6 (lN 0) x4 S
noncomputable def jf_more_h87 (F : Nat) (r76 : Int32 × Int32 × Int32 × jf_S → Option (Int32 × jf_S)) : Nat → Int32 × Int32 × Int32 × Int64 × Int32 × jf_S → Option (Int32 × jf_S) := jx_loop fun r (a : Int32 × Int32 × Int32 × Int64 × Int32 × jf_S) => jf_more_L87 F r76 r a.1 a.2.1 a.2.2.1 a.2.2.2.1 a.2.2.2.2.1 a.2.2.2.2.2
noncomputable def jf_more_L76 (F : Nat) (r76 : Int32 × Int32 × Int32 × jf_S → Option (Int32 × jf_S)) (x1 : Int32) (x2 : Int32) (x3 : Int32) (S : jf_S) : Option (Int32 × jf_S) :=
  if x1 ≤ x3 then
    some (x2, S)
  else
    jx_nx (lN 0) fun y2 =>
      jx_nx (nI 0) fun y3 =>
        jf_more_h87 F r76 F (x1, x2, x3, y2, y3, S)
noncomputable def jf_more_h76 (F : Nat) : Nat → Int32 × Int32 × Int32 × jf_S → Option (Int32 × jf_S) := jx_loop fun r (a : Int32 × Int32 × Int32 × jf_S) => jf_more_L76 F r a.1 a.2.1 a.2.2.1 a.2.2.2
noncomputable def jf_more_L2 (F : Nat) (r2 : Int32 × Int32 × jf_S → Option (Int32 × jf_S)) (x1 : Int32) (x2 : Int32) (S : jf_S) : Option (Int32 × jf_S) :=
  if (S.1 0 11) ≤ x2 then
    jx_nx (nI 0) fun y2 =>
      jx_nx (nI 0) fun y3 =>
        jf_more_h76 F F (x1, y2, y3, S)
  else
    jx_nx (nI 0) fun y4 =>
      jf_more_h12 F r2 F (x1, x2, y4, S)
noncomputable def jf_more_h2 (F : Nat) : Nat → Int32 × Int32 × jf_S → Option (Int32 × jf_S) := jx_loop fun r (a : Int32 × Int32 × jf_S) => jf_more_L2 F r a.1 a.2.1 a.2.2
noncomputable def jf_more (F : Nat) (x1 : Int32) (S : jf_S) : Option (Int32 × jf_S) :=
  jx_nx (nI 0) fun y1 =>
    jf_more_h2 F F (x1, y1, S)
noncomputable def jf_parts_b38 (F : Nat) (rc : Int32 × Int32 × Int32 × jf_S → Option (jf_S)) (x4 : Int32) (S : jf_S) : Option (jf_S) :=
  jx_nx (jf_setI S 0 14 (nI 1)) fun S1 =>
    jx_nx (jf_setI S1 0 13 x4) fun S2 =>
      some S2
noncomputable def jf_parts_b90 (F : Nat) (rc : Int32 × Int32 × Int32 × jf_S → Option (jf_S)) (r53 : Int32 × Int32 × Int32 × Int32 × jf_S → Option (jf_S)) (x1 : Int32) (x2 : Int32) (x3 : Int32) (x4 : Int32) (k0 : Int32) (k1 : Int32) (S : jf_S) : Option (jf_S) :=
  (rc (k1, k0, x3, S)).bind fun q1 =>
    jx_nx (x4 + nI 1) fun y2 =>
      r53 (x1, x2, x3, y2, q1)
noncomputable def jf_parts_L53 (F : Nat) (rc : Int32 × Int32 × Int32 × jf_S → Option (jf_S)) (r53 : Int32 × Int32 × Int32 × Int32 × jf_S → Option (jf_S)) (x1 : Int32) (x2 : Int32) (x3 : Int32) (x4 : Int32) (S : jf_S) : Option (jf_S) :=
  if x2 < x4 then
    some S
  else
    if x3 ≤ x4 then
      some S
    else
      jx_ga x1 6 fun j3 => jx_nx (jf_setA S 0 9 (upd (S.2.2.1 0 9) j3 x4)) fun S4 =>
        if x4 = x2 then
          jf_parts_b90 F rc r53 x1 x2 x3 x4 (x2 + (nI 1)) (x1 + (nI 1)) S4
        else
          jf_parts_b90 F rc r53 x1 x2 x3 x4 x2 (x1 + (nI 1)) S4
noncomputable def jf_parts_h53 (F : Nat) (rc : Int32 × Int32 × Int32 × jf_S → Option (jf_S)) : Nat → Int32 × Int32 × Int32 × Int32 × jf_S → Option (jf_S) := jx_loop fun r (a : Int32 × Int32 × Int32 × Int32 × jf_S) => jf_parts_L53 F rc r a.1 a.2.1 a.2.2.1 a.2.2.2.1 a.2.2.2.2
noncomputable def jf_parts_B (F : Nat) (rc : Int32 × Int32 × Int32 × jf_S → Option (jf_S)) (x1 : Int32) (x2 : Int32) (x3 : Int32) (S : jf_S) : Option (jf_S) :=
  if x1 = (S.1 0 11) then
    (jf_more F x2 S).bind fun q3 =>
      jx_nx (q3.1) fun y4 =>
        if y4 = (-1 : Int32) then
          some q3.2
        else
          if (q3.2.1 0 14) = 0 then
            jf_parts_b38 F rc y4 q3.2
          else
            if y4 < (q3.2.1 0 13) then
              jf_parts_b38 F rc y4 q3.2
            else
              some q3.2
  else
    jx_nx (nI 0) fun y2 =>
      jf_parts_h53 F rc F (x1, x2, x3, y2, S)
noncomputable def jf_parts (F : Nat) (d : Nat) (x1 : Int32) (x2 : Int32) (x3 : Int32) (S : jf_S) : Option (jf_S) := jx_loop (fun rc (a : Int32 × Int32 × Int32 × jf_S) => jf_parts_B F rc a.1 a.2.1 a.2.2.1 a.2.2.2) d (x1, x2, x3, S)

set_option maxRecDepth 100000
noncomputable def jm_thrown (F : Nat)  (S : jm_S) : Option (Int32 × jm_S) :=
  some (S.1 0, S)
noncomputable def jm_image_L7 (F : Nat) (r7 : Int32 × jm_S → Option (jm_S)) (x1 : Int32) (S : jm_S) : Option (jm_S) :=
  if (nI 412) ≤ x1 then
    jx_nx (jm_setI S 3 (nI 1)) fun S2 =>
      some S2
  else
    jx_ga x1 412 fun j3 =>
      jx_ga x1 412 fun j4 => jx_nx (jm_setA S 2 (upd (S.2.1 2) j4 (S.2.1 1 j3))) fun S5 =>
        jx_nx (x1 + nI 1) fun y6 =>
          r7 (y6, S5)
noncomputable def jm_image_h7 (F : Nat) : Nat → Int32 × jm_S → Option (jm_S) := jx_loop fun r (a : Int32 × jm_S) => jm_image_L7 F r a.1 a.2
noncomputable def jm_image (F : Nat)  (S : jm_S) : Option (jm_S) :=
  jx_nx (jm_setI S 0 (nI 0)) fun S1 =>
    jx_nx (nI 0) fun y2 =>
      jm_image_h7 F F (y2, S1)
noncomputable def jm_back_L16 (F : Nat) (r16 : Int32 × jm_S → Option (Int32 × jm_S)) (x1 : Int32) (S : jm_S) : Option (Int32 × jm_S) :=
  if (nI 412) ≤ x1 then
    some (nI 1, S)
  else
    jx_ga x1 412 fun j2 =>
      jx_ga x1 412 fun j3 => jx_nx (jm_setA S 1 (upd (S.2.1 1) j3 (S.2.1 2 j2))) fun S4 =>
        jx_nx (x1 + nI 1) fun y5 =>
          r16 (y5, S4)
noncomputable def jm_back_h16 (F : Nat) : Nat → Int32 × jm_S → Option (Int32 × jm_S) := jx_loop fun r (a : Int32 × jm_S) => jm_back_L16 F r a.1 a.2
noncomputable def jm_back (F : Nat)  (S : jm_S) : Option (Int32 × jm_S) :=
  jx_nx (jm_setI S 0 (nI 0)) fun S1 =>
    if (S1.1 3) = 0 then
      some (nI 0, S1)
    else
      jx_nx (nI 0) fun y3 =>
        jm_back_h16 F F (y3, S1)
noncomputable def jm_feed_L60 (F : Nat) (r60 : Int32 × jm_S → Option (Int32 × jm_S)) (x6 : Int32) (S : jm_S) : Option (Int32 × jm_S) :=
  if (nI 20) ≤ x6 then
    jx_nx (jm_setI S 5 ((S.1 5) + (nI 20))) fun S2 =>
      some (S2.1 5, S2)
  else
    jx_ga (x6 / (nI 4)) 5 fun j3 =>
      jx_ga ((S.1 5) + x6) 400 fun j4 => jx_nx (jm_setA S 4 (upd (S.2.1 4) j4 (vp_nar .byte (((S.2.1 10 j3) >>> (((nI 24) - ((nI 8) * (x6 - x6 / (nI 4) * (nI 4)))) &&& 31)).toInt8.toInt32)))) fun S5 =>
        jx_nx (x6 + nI 1) fun y6 =>
          r60 (y6, S5)
noncomputable def jm_feed_h60 (F : Nat) : Nat → Int32 × jm_S → Option (Int32 × jm_S) := jx_loop fun r (a : Int32 × jm_S) => jm_feed_L60 F r a.1 a.2
noncomputable def jm_feed (F : Nat) (x1 : Int32) (x2 : Int32) (x3 : Int32) (x4 : Int32) (x5 : Int32) (S : jm_S) : Option (Int32 × jm_S) :=
  jx_nx (jm_setI S 0 (nI 0)) fun S1 =>
    if ((S1.1 5) + (nI 20)) ≤ (nI 400) then
      jx_ga (nI 0) 5 fun j3 => jx_nx (jm_setA S1 10 (upd (S1.2.1 10) j3 x1)) fun S4 =>
        jx_ga (nI 1) 5 fun j5 => jx_nx (jm_setA S4 10 (upd (S4.2.1 10) j5 x2)) fun S6 =>
          jx_ga (nI 2) 5 fun j7 => jx_nx (jm_setA S6 10 (upd (S6.2.1 10) j7 x3)) fun S8 =>
            jx_ga (nI 3) 5 fun j9 => jx_nx (jm_setA S8 10 (upd (S8.2.1 10) j9 x4)) fun S10 =>
              jx_ga (nI 4) 5 fun j11 => jx_nx (jm_setA S10 10 (upd (S10.2.1 10) j11 x5)) fun S12 =>
                jx_nx (nI 0) fun y13 =>
                  jm_feed_h60 F F (y13, S12)
    else
      some ((-1 : Int32), S1)
noncomputable def jm_end (F : Nat) (x1 : Int32) (S : jm_S) : Option (Int32 × jm_S) :=
  jx_nx (jm_setI S 0 (nI 0)) fun S1 =>
    if x1 < 0 then
      some (nI 0, S1)
    else
      if x1 ≤ (S1.1 5) then
        jx_nx (jm_setI S1 5 x1) fun S4 =>
          some (nI 1, S4)
      else
        some (nI 0, S1)
noncomputable def jm_fault (F : Nat)  (S : jm_S) : Option (Int32 × jm_S) :=
  jx_nx (jm_setI S 0 (nI 0)) fun S1 =>
    some (S1.1 9, S1)
noncomputable def jm_orders (F : Nat)  (S : jm_S) : Option (Int32 × jm_S) :=
  jx_ga (nI 0) 412 fun j1 =>
    some (S.2.1 1 j1, S)
noncomputable def jm_isAt (F : Nat) (x1 : Int32) (x2 : Int32) (S : jm_S) : Option (Int32 × jm_S) :=
  if (S.1 7) ≤ (S.1 6) then
    some (nI 0, S)
  else
    jx_ga (S.1 6) 400 fun j2 =>
      if (S.2.1 4 j2) < x1 then
        some (nI 0, S)
      else
        jx_ga (S.1 6) 400 fun j4 =>
          if x2 < (S.2.1 4 j4) then
            some (nI 0, S)
          else
            some (nI 1, S)
noncomputable def jm_blanks_L0 (F : Nat) (r0 : jm_S → Option (jm_S))  (S : jm_S) : Option (jm_S) :=
  (jm_isAt F (nI 32) (nI 32) S).bind fun q1 =>
    if q1.1 = 0 then
      jx_nx (jm_setI q1.2 8 (q1.2.1 6)) fun S3 =>
        some S3
    else
      jx_nx (jm_setI q1.2 6 ((q1.2.1 6) + (nI 1))) fun S4 =>
        r0 (S4)
noncomputable def jm_blanks_h0 (F : Nat) : Nat → jm_S → Option (jm_S) := jx_loop fun r (a : jm_S) => jm_blanks_L0 F r a
noncomputable def jm_blanks (F : Nat)  (S : jm_S) : Option (jm_S) :=
  jm_blanks_h0 F F (S)
noncomputable def jm_isWord_b60 (F : Nat) (r24 : Nat × Int32 × Int32 × jm_S → Option (Int32 × jm_S)) (x1 : Nat) (x3 : Int32) (k0 : Int32) (S : jm_S) : Option (Int32 × jm_S) :=
  jx_nx (x3 + nI 1) fun y1 =>
    r24 (x1, k0, y1, S)
noncomputable def jm_isWord_L24 (F : Nat) (r24 : Nat × Int32 × Int32 × jm_S → Option (Int32 × jm_S)) (x1 : Nat) (x2 : Int32) (x3 : Int32) (S : jm_S) : Option (Int32 × jm_S) :=
  if x2 = 0 then
    jx_gz x2 (some (x2, S))
  else
    jx_gs x1 <|
      if (nI (jx_sl x1)) ≤ x3 then
        jx_gz x2 (some (x2, S))
      else
        jx_ga ((S.1 8) + x3) 400 fun j6 =>
          jx_gs x1 <| jx_ga x3 (jx_sl x1) fun j7 =>
            if (S.2.1 4 j6) = (jx_sc x1 j7) then
              jm_isWord_b60 F r24 x1 x3 (nI 1) S
            else
              jm_isWord_b60 F r24 x1 x3 (nI 0) S
noncomputable def jm_isWord_h24 (F : Nat) : Nat → Nat × Int32 × Int32 × jm_S → Option (Int32 × jm_S) := jx_loop fun r (a : Nat × Int32 × Int32 × jm_S) => jm_isWord_L24 F r a.1 a.2.1 a.2.2.1 a.2.2.2
noncomputable def jm_isWord_b21 (F : Nat) (x1 : Nat) (k0 : Int32) (S : jm_S) : Option (Int32 × jm_S) :=
  jx_nx (nI 0) fun y1 =>
    jm_isWord_h24 F F (x1, k0, y1, S)
noncomputable def jm_isWord (F : Nat) (x1 : Nat) (S : jm_S) : Option (Int32 × jm_S) :=
  jx_gs x1 <|
    if ((S.1 6) - (S.1 8)) = (nI (jx_sl x1)) then
      jm_isWord_b21 F x1 (nI 1) S
    else
      jm_isWord_b21 F x1 (nI 0) S
noncomputable def jm_letters_L4 (F : Nat) (r4 : jm_S → Option (jm_S))  (S : jm_S) : Option (jm_S) :=
  (jm_isAt F (nI 97) (nI 122) S).bind fun q1 =>
    if q1.1 = 0 then
      some q1.2
    else
      jx_nx (jm_setI q1.2 6 ((q1.2.1 6) + (nI 1))) fun S3 =>
        r4 (S3)
noncomputable def jm_letters_h4 (F : Nat) : Nat → jm_S → Option (jm_S) := jx_loop fun r (a : jm_S) => jm_letters_L4 F r a
noncomputable def jm_letters (F : Nat)  (S : jm_S) : Option (jm_S) :=
  (jm_blanks F  S).bind fun q1 =>
    jm_letters_h4 F F (q1)
noncomputable def jm_needs (F : Nat) (x1 : Nat) (S : jm_S) : Option (Int32 × jm_S) :=
  (jm_letters F  S).bind fun q1 =>
    (jm_isWord F x1 q1).bind fun q2 =>
      jx_gz q2.1 (some (q2.1, q2.2))
noncomputable def jm_number_b51 (F : Nat) (r6 : Int32 × Int32 × jm_S → Option (Int32 × jm_S)) (x1 : Int32) (k0 : Int32) (S : jm_S) : Option (Int32 × jm_S) :=
  jx_nx (jm_setI S 6 ((S.1 6) + (nI 1))) fun S1 =>
    r6 (x1, k0, S1)
noncomputable def jm_number_L6 (F : Nat) (r6 : Int32 × Int32 × jm_S → Option (Int32 × jm_S)) (x1 : Int32) (x2 : Int32) (S : jm_S) : Option (Int32 × jm_S) :=
  (jm_isAt F (nI 48) (nI 57) S).bind fun q1 =>
    if q1.1 = 0 then
      if (q1.2.1 6) = (q1.2.1 8) then
        some ((-1 : Int32), q1.2)
      else
        if (nI 3) < ((q1.2.1 6) - (q1.2.1 8)) then
          some ((-1 : Int32), q1.2)
        else
          if x2 ≤ x1 then
            some (x2, q1.2)
          else
            some ((-1 : Int32), q1.2)
    else
      if (nI 3) ≤ ((q1.2.1 6) - (q1.2.1 8)) then
        jm_number_b51 F r6 x1 x2 q1.2
      else
        jx_ga (q1.2.1 6) 400 fun j7 =>
          jm_number_b51 F r6 x1 ((((nI 10) * x2) + (q1.2.2.1 4 j7)) - (nI 48)) q1.2
noncomputable def jm_number_h6 (F : Nat) : Nat → Int32 × Int32 × jm_S → Option (Int32 × jm_S) := jx_loop fun r (a : Int32 × Int32 × jm_S) => jm_number_L6 F r a.1 a.2.1 a.2.2
noncomputable def jm_number (F : Nat) (x1 : Int32) (S : jm_S) : Option (Int32 × jm_S) :=
  (jm_blanks F  S).bind fun q1 =>
    jx_nx (nI 0) fun y2 =>
      jm_number_h6 F F (x1, y2, q1)
noncomputable def jm_passes (F : Nat) (x1 : Nat) (S : jm_S) : Option (Int32 × jm_S) :=
  (jm_letters F  S).bind fun q1 =>
    (jm_isWord F x1 q1).bind fun q2 =>
      if q2.1 = 0 then
        jx_nx (jm_setI q2.2 6 (q2.2.1 8)) fun S4 =>
          some (nI 0, S4)
      else
        some (nI 1, q2.2)
noncomputable def jm_readAtom_b42 (F : Nat) (k0 : Int32) (S : jm_S) : Option (Int32 × jm_S) :=
  if 0 ≤ k0 then
    some ((nI 1000) + k0, S)
  else
    some ((-1 : Int32), S)
noncomputable def jm_readAtom (F : Nat)  (S : jm_S) : Option (Int32 × jm_S) :=
  (jm_letters F  S).bind fun q1 =>
    if (q1.1 6) = (q1.1 8) then
      (jm_number F (nI 999) q1).bind fun q6 =>
        some (q6.1, q6.2)
    else
      (jm_isWord F 11 q1).bind fun q3 =>
        if q3.1 = 0 then
          jm_readAtom_b42 F (-1 : Int32) q3.2
        else
          (jm_number F (nI 15) q3.2).bind fun q5 =>
            jm_readAtom_b42 F q5.1 q5.2
noncomputable def jm_readCell (F : Nat)  (S : jm_S) : Option (Int32 × jm_S) :=
  (jm_needs F 11 S).bind fun q1 =>
    if q1.1 = 0 then
      some ((-1 : Int32), q1.2)
    else
      (jm_number F (nI 15) q1.2).bind fun q3 =>
        some (q3.1, q3.2)
noncomputable def jm_sign (F : Nat) (x1 : Int32) (S : jm_S) : Option (Int32 × jm_S) :=
  (jm_blanks F  S).bind fun q1 =>
    (jm_isAt F x1 x1 q1).bind fun q2 =>
      if q2.1 = 0 then
        some (nI 0, q2.2)
      else
        jx_nx (jm_setI q2.2 6 ((q2.2.1 6) + (nI 1))) fun S4 =>
          some (nI 1, S4)
noncomputable def jm_readSign (F : Nat) (x1 : Int32) (S : jm_S) : Option (Int32 × jm_S) :=
  if x1 = 0 then
    (jm_sign F (nI 43) S).bind fun q2 =>
      if q2.1 = 0 then
        (jm_sign F (nI 45) q2.2).bind fun q4 =>
          if q4.1 = 0 then
            (jm_sign F (nI 42) q4.2).bind fun q6 =>
              if q6.1 = 0 then
                some (nI 0, q6.2)
              else
                some (nI 42, q6.2)
          else
            some (nI 45, q4.2)
      else
        some (nI 43, q2.2)
  else
    (jm_sign F (nI 60) S).bind fun q8 =>
      if q8.1 = 0 then
        (jm_sign F (nI 62) q8.2).bind fun q10 =>
          if q10.1 = 0 then
            (jm_sign F (nI 61) q10.2).bind fun q12 =>
              if q12.1 = 0 then
                some ((-1 : Int32), q12.2)
              else
                some (nI 61, q12.2)
          else
            some (nI 62, q10.2)
      else
        some (nI 60, q8.2)
noncomputable def jm_tells (F : Nat) (x1 : Int32) (x2 : Int32) (S : jm_S) : Option (Int32 × jm_S) :=
  jx_ga x1 360 fun j1 => jx_nx (jm_setA S 11 (upd (S.2.1 11) j1 x2)) fun S2 =>
    if x2 < 0 then
      some (nI 0, S2)
    else
      some (nI 1, S2)
noncomputable def jm_readIf (F : Nat) (x1 : Int32) (S : jm_S) : Option (Int32 × jm_S) :=
  (jm_readAtom F  S).bind fun q1 =>
    (jm_tells F (x1 + (nI 6)) q1.1 q1.2).bind fun q2 =>
      if q2.1 = 0 then
        some (nI 0, q2.2)
      else
        (jm_readSign F (nI 1) q2.2).bind fun q4 =>
          (jm_tells F (x1 + (nI 8)) q4.1 q4.2).bind fun q5 =>
            if q5.1 = 0 then
              some (nI 0, q5.2)
            else
              (jm_readAtom F  q5.2).bind fun q7 =>
                (jm_tells F (x1 + (nI 7)) q7.1 q7.2).bind fun q8 =>
                  if q8.1 = 0 then
                    some (nI 0, q8.2)
                  else
                    (jm_needs F 2 q8.2).bind fun q10 =>
                      if q10.1 = 0 then
                        some (nI 0, q10.2)
                      else
                        (jm_number F (nI 39) q10.2).bind fun q12 =>
                          (jm_tells F (x1 + (nI 4)) q12.1 q12.2).bind fun q13 =>
                            if q13.1 = 0 then
                              some (nI 0, q13.2)
                            else
                              some (nI 1, q13.2)
noncomputable def jm_readSum (F : Nat) (x1 : Int32) (S : jm_S) : Option (Int32 × jm_S) :=
  (jm_sign F (nI 61) S).bind fun q1 =>
    if q1.1 = 0 then
      some (nI 0, q1.2)
    else
      (jm_readAtom F  q1.2).bind fun q3 =>
        (jm_tells F (x1 + (nI 6)) q3.1 q3.2).bind fun q4 =>
          if q4.1 = 0 then
            some (nI 0, q4.2)
          else
            (jm_readSign F (nI 0) q4.2).bind fun q6 =>
              jx_ga (x1 + (nI 8)) 360 fun j7 => jx_nx (jm_setA q6.2 11 (upd (q6.2.2.1 11) j7 q6.1)) fun S8 =>
                jx_ga (x1 + (nI 8)) 360 fun j9 =>
                  if (S8.2.1 11 j9) = 0 then
                    some (nI 1, S8)
                  else
                    (jm_readAtom F  S8).bind fun q11 =>
                      (jm_tells F (x1 + (nI 7)) q11.1 q11.2).bind fun q12 =>
                        if q12.1 = 0 then
                          some (nI 0, q12.2)
                        else
                          some (nI 1, q12.2)
noncomputable def jm_wordAt (F : Nat)  (S : jm_S) : Option (Int32 × jm_S) :=
  (jm_isWord F 0 S).bind fun q1 =>
    if q1.1 = 0 then
      (jm_isWord F 1 q1.2).bind fun q3 =>
        if q3.1 = 0 then
          (jm_isWord F 2 q3.2).bind fun q5 =>
            if q5.1 = 0 then
              (jm_isWord F 3 q5.2).bind fun q7 =>
                if q7.1 = 0 then
                  (jm_isWord F 4 q7.2).bind fun q9 =>
                    if q9.1 = 0 then
                      (jm_isWord F 5 q9.2).bind fun q11 =>
                        if q11.1 = 0 then
                          (jm_isWord F 6 q11.2).bind fun q13 =>
                            if q13.1 = 0 then
                              (jm_isWord F 7 q13.2).bind fun q15 =>
                                if q15.1 = 0 then
                                  (jm_isWord F 8 q15.2).bind fun q17 =>
                                    if q17.1 = 0 then
                                      (jm_isWord F 9 q17.2).bind fun q19 =>
                                        if q19.1 = 0 then
                                          some ((-1 : Int32), q19.2)
                                        else
                                          some (nI 9, q19.2)
                                    else
                                      some (nI 8, q17.2)
                                else
                                  some (nI 7, q15.2)
                            else
                              some (nI 6, q13.2)
                        else
                          some (nI 5, q11.2)
                    else
                      some (nI 4, q9.2)
                else
                  some (nI 3, q7.2)
            else
              some (nI 2, q5.2)
        else
          some (nI 1, q3.2)
    else
      some (nI 0, q1.2)
noncomputable def jm_readOrder_b177 (F : Nat) (x2 : Int32) (S : jm_S) : Option (Int32 × jm_S) :=
  (jm_number F (nI 39) S).bind fun q1 =>
    (jm_tells F (x2 + (nI 4)) q1.1 q1.2).bind fun q2 =>
      jx_gz q2.1 (some (q2.1, q2.2))
noncomputable def jm_readOrder_b103 (F : Nat) (x2 : Int32) (S : jm_S) : Option (Int32 × jm_S) :=
  (jm_wordAt F  S).bind fun q1 =>
    jx_nx (q1.1) fun y2 =>
      jx_ga (x2 + (nI 0)) 360 fun j3 => jx_nx (jm_setA q1.2 11 (upd (q1.2.2.1 11) j3 y2)) fun S4 =>
        if 0 ≤ y2 then
          if y2 = (nI 7) then
            some (nI 1, S4)
          else
            if y2 = (nI 9) then
              some (nI 1, S4)
            else
              if y2 = (nI 8) then
                (jm_readAtom F  S4).bind fun q31 =>
                  (jm_tells F (x2 + (nI 6)) q31.1 q31.2).bind fun q32 =>
                    jx_gz q32.1 (some (q32.1, q32.2))
              else
                if y2 = (nI 3) then
                  (jm_readIf F x2 S4).bind fun q29 =>
                    jx_gz q29.1 (some (q29.1, q29.2))
                else
                  if y2 = (nI 2) then
                    jm_readOrder_b177 F x2 S4
                  else
                    if y2 = (nI 5) then
                      jm_readOrder_b177 F x2 S4
                    else
                      (jm_readCell F  S4).bind fun q12 =>
                        (jm_tells F (x2 + (nI 5)) q12.1 q12.2).bind fun q13 =>
                          if q13.1 = 0 then
                            some (nI 0, q13.2)
                          else
                            if y2 = 0 then
                              (jm_readSum F x2 q13.2).bind fun q27 =>
                                jx_gz q27.1 (some (q27.1, q27.2))
                            else
                              if y2 = (nI 1) then
                                (jm_needs F 12 q13.2).bind fun q22 =>
                                  if q22.1 = 0 then
                                    some (nI 0, q22.2)
                                  else
                                    (jm_number F (nI 39) q22.2).bind fun q24 =>
                                      (jm_tells F (x2 + (nI 4)) q24.1 q24.2).bind fun q25 =>
                                        if q25.1 = 0 then
                                          some (nI 0, q25.2)
                                        else
                                          some (nI 1, q25.2)
                              else
                                (jm_passes F 13 q13.2).bind fun q17 =>
                                  if q17.1 = 0 then
                                    some (nI 1, q17.2)
                                  else
                                    (jm_number F (nI 3) q17.2).bind fun q19 =>
                                      (jm_tells F (x2 + (nI 3)) q19.1 q19.2).bind fun q20 =>
                                        if q20.1 = 0 then
                                          some (nI 0, q20.2)
                                        else
                                          some (nI 1, q20.2)
        else
          some (nI 0, S4)
noncomputable def jm_readOrder_L24 (F : Nat) (r24 : Int32 × Int32 × jm_S → Option (Int32 × jm_S)) (x2 : Int32) (x3 : Int32) (S : jm_S) : Option (Int32 × jm_S) :=
  if (nI 9) ≤ x3 then
    jx_ga (x2 + (nI 1)) 360 fun j2 => jx_nx (jm_setA S 11 (upd (S.2.1 11) j2 (-1 : Int32))) fun S3 =>
      jx_ga (x2 + (nI 4)) 360 fun j4 => jx_nx (jm_setA S3 11 (upd (S3.2.1 11) j4 (-1 : Int32))) fun S5 =>
        jx_ga (x2 + (nI 7)) 360 fun j6 => jx_nx (jm_setA S5 11 (upd (S5.2.1 11) j6 (-1 : Int32))) fun S7 =>
          (jm_isWord F 10 S7).bind fun q8 =>
            if q8.1 = 0 then
              jm_readOrder_b103 F x2 q8.2
            else
              (jm_number F (nI 3) q8.2).bind fun q10 =>
                (jm_tells F (x2 + (nI 1)) q10.1 q10.2).bind fun q11 =>
                  if q11.1 = 0 then
                    some (nI 0, q11.2)
                  else
                    (jm_letters F  q11.2).bind fun q13 =>
                      jm_readOrder_b103 F x2 q13
  else
    jx_ga (x2 + x3) 360 fun j14 => jx_nx (jm_setA S 11 (upd (S.2.1 11) j14 (nI 0))) fun S15 =>
      jx_nx (x3 + nI 1) fun y16 =>
        r24 (x2, y16, S15)
noncomputable def jm_readOrder_h24 (F : Nat) : Nat → Int32 × Int32 × jm_S → Option (Int32 × jm_S) := jx_loop fun r (a : Int32 × Int32 × jm_S) => jm_readOrder_L24 F r a.1 a.2.1 a.2.2
noncomputable def jm_readOrder (F : Nat) (x1 : Int32) (S : jm_S) : Option (Int32 × jm_S) :=
  (jm_letters F  S).bind fun q1 =>
    (jm_orders F  q1).bind fun q2 =>
      if (q2.1 + x1) = (nI 40) then
        some (nI 0, q2.2)
      else
        jx_nx ((nI 9) * x1) fun y4 =>
          jx_nx (nI 0) fun y5 =>
            jm_readOrder_h24 F F (y4, y5, q2.2)
noncomputable def jm_readAll_L19 (F : Nat) (r19 : Int32 × jm_S → Option (Int32 × jm_S)) (x1 : Int32) (S : jm_S) : Option (Int32 × jm_S) :=
  (jm_readOrder F x1 S).bind fun q1 =>
    if q1.1 = 0 then
      some ((-1 : Int32), q1.2)
    else
      (jm_blanks F  q1.2).bind fun q3 =>
        if (q3.1 6) = (q3.1 7) then
          some (x1 + (nI 1), q3)
        else
          (jm_isAt F (nI 59) (nI 59) q3).bind fun q5 =>
            if q5.1 = 0 then
              some ((-1 : Int32), q5.2)
            else
              jx_nx (jm_setI q5.2 6 ((q5.2.1 6) + (nI 1))) fun S7 =>
                jx_nx (x1 + nI 1) fun y8 =>
                  r19 (y8, S7)
noncomputable def jm_readAll_h19 (F : Nat) : Nat → Int32 × jm_S → Option (Int32 × jm_S) := jx_loop fun r (a : Int32 × jm_S) => jm_readAll_L19 F r a.1 a.2
noncomputable def jm_readAll (F : Nat)  (S : jm_S) : Option (Int32 × jm_S) :=
  (jm_blanks F  S).bind fun q1 =>
    if (q1.1 6) = (q1.1 7) then
      some (nI 0, q1)
    else
      jx_nx (nI 0) fun y3 =>
        jm_readAll_h19 F F (y3, q1)
noncomputable def jm_throwsIf (F : Nat) (x1 : Int32) (x2 : Int32) (S : jm_S) : Option (Int32 × jm_S) :=
  if x1 = 0 then
    jx_gz x1 (some (x1, S))
  else
    jx_nx (jm_setI S 0 x2) fun S3 =>
      jx_gz x1 (some (x1, S3))
noncomputable def jm_uses (F : Nat)  (S : jm_S) : Option (jm_S) :=
  jx_nx (jm_setI S 0 (nI 0)) fun S1 =>
    jx_nx (jm_setI S1 7 (S1.1 5)) fun S2 =>
      jx_nx (jm_setI S2 5 (nI 0)) fun S3 =>
        jx_nx (jm_setI S3 6 (nI 0)) fun S4 =>
          some S4
noncomputable def jm_load_L46 (F : Nat) (r46 : Int32 × Int32 × jm_S → Option (Int32 × jm_S)) (x1 : Int32) (x2 : Int32) (S : jm_S) : Option (Int32 × jm_S) :=
  if ((nI 9) * x1) ≤ x2 then
    jx_ga (nI 0) 412 fun j2 =>
      jx_ga (nI 0) 412 fun j3 => jx_nx (jm_setA S 1 (upd (S.2.1 1) j3 ((S.2.1 1 j2) + x1))) fun S4 =>
        (jm_orders F  S4).bind fun q5 =>
          some (q5.1, q5.2)
  else
    (jm_orders F  S).bind fun q6 =>
      jx_ga x2 360 fun j7 =>
        jx_ga (((nI 8) + ((nI 9) * q6.1)) + x2) 412 fun j8 => jx_nx (jm_setA q6.2 1 (upd (q6.2.2.1 1) j8 (q6.2.2.1 11 j7))) fun S9 =>
          jx_nx (x2 + nI 1) fun y10 =>
            r46 (x1, y10, S9)
noncomputable def jm_load_h46 (F : Nat) : Nat → Int32 × Int32 × jm_S → Option (Int32 × jm_S) := jx_loop fun r (a : Int32 × Int32 × jm_S) => jm_load_L46 F r a.1 a.2.1 a.2.2
noncomputable def jm_load_b35 (F : Nat) (x1 : Int32) (k0 : Int32) (S : jm_S) : Option (Int32 × jm_S) :=
  (jm_throwsIf F k0 (nI 1) S).bind fun q1 =>
    if q1.1 = 0 then
      jx_nx (nI 0) fun y3 =>
        jm_load_h46 F F (x1, y3, q1.2)
    else
      some (nI 0, q1.2)
noncomputable def jm_load_b22 (F : Nat) (x1 : Int32) (k0 : Int32) (S : jm_S) : Option (Int32 × jm_S) :=
  jx_nx (jm_setI S 9 k0) fun S1 =>
    if 0 ≤ x1 then
      jm_load_b35 F x1 (nI 0) S1
    else
      jm_load_b35 F x1 (nI 1) S1
noncomputable def jm_load (F : Nat)  (S : jm_S) : Option (Int32 × jm_S) :=
  (jm_uses F  S).bind fun q1 =>
    (jm_readAll F  q1).bind fun q2 =>
      jx_nx (q2.1) fun y3 =>
        if 0 ≤ y3 then
          jm_load_b22 F y3 (-1 : Int32) q2.2
        else
          jm_load_b22 F y3 (q2.2.1 8) q2.2
noncomputable def jm_noOrder (F : Nat) (x1 : Int32) (S : jm_S) : Option (Int32 × jm_S) :=
  (jm_orders F  S).bind fun q1 =>
    (jm_in x1 (nI 0) (q1.1 - (nI 1))).bind fun q2 =>
      if q2 = 0 then
        some (nI 1, q1.2)
      else
        some (nI 0, q1.2)
noncomputable def jm_of (F : Nat) (x1 : Int32) (x2 : Int32) (S : jm_S) : Option (Int32 × jm_S) :=
  jx_ga (((nI 8) + ((nI 9) * x1)) + x2) 412 fun j1 =>
    some (S.2.1 1 j1, S)
noncomputable def jm_order_b33 (F : Nat) (x1 : Int32) (x2 : Int32) (k0 : Int32) (S : jm_S) : Option (Int32 × jm_S) :=
  (jm_throwsIf F k0 (nI 2) S).bind fun q1 =>
    if q1.1 = 0 then
      (jm_of F x1 x2 q1.2).bind fun q3 =>
        some (q3.1, q3.2)
    else
      some (nI 0, q1.2)
noncomputable def jm_order (F : Nat) (x1 : Int32) (x2 : Int32) (S : jm_S) : Option (Int32 × jm_S) :=
  jx_nx (jm_setI S 0 (nI 0)) fun S1 =>
    (jm_noOrder F x1 S1).bind fun q2 =>
      (jm_throwsIf F q2.1 (nI 1) q2.2).bind fun q3 =>
        if q3.1 = 0 then
          (jm_in x2 (nI 0) (nI 4)).bind fun q5 =>
            if q5 = 0 then
              jm_order_b33 F x1 x2 (nI 1) q3.2
            else
              jm_order_b33 F x1 x2 (nI 0) q3.2
        else
          some (nI 0, q3.2)
noncomputable def jm_wordOf (F : Nat) (x1 : Int32) (S : jm_S) : Option (Int32 × jm_S) :=
  (jm_of F x1 (nI 0) S).bind fun q1 =>
    some (q1.1, q1.2)
noncomputable def jm_isJump (F : Nat) (x1 : Int32) (S : jm_S) : Option (Int32 × jm_S) :=
  (jm_wordOf F x1 S).bind fun q1 =>
    if q1.1 = (nI 4) then
      some (nI 1, q1.2)
    else
      (jm_wordOf F x1 q1.2).bind fun q3 =>
        if q3.1 = (nI 6) then
          some (nI 1, q3.2)
        else
          (jm_wordOf F x1 q3.2).bind fun q5 =>
            if q5.1 = (nI 7) then
              some (nI 1, q5.2)
            else
              some (nI 0, q5.2)
noncomputable def jm_grade_b54 (F : Nat) (x1 : Int32) (x2 : Int32) (k0 : Int32) (S : jm_S) : Option (Int32 × jm_S) :=
  (jm_throwsIf F k0 (nI 3) S).bind fun q1 =>
    if q1.1 = 0 then
      (jm_of F x1 (nI 2) q1.2).bind fun q3 =>
        if q3.1 = x2 then
          some (nI 0, q3.2)
        else
          jx_ga (((nI 8) + ((nI 9) * x1)) + (nI 2)) 412 fun j5 => jx_nx (jm_setA q3.2 1 (upd (q3.2.2.1 1) j5 x2)) fun S6 =>
            some (nI 1, S6)
    else
      some (nI 0, q1.2)
noncomputable def jm_grade_b32 (F : Nat) (x1 : Int32) (x2 : Int32) (k0 : Int32) (S : jm_S) : Option (Int32 × jm_S) :=
  (jm_throwsIf F k0 (nI 2) S).bind fun q1 =>
    if q1.1 = 0 then
      (jm_in x2 (nI 0) (nI 3)).bind fun q3 =>
        if q3 = 0 then
          jm_grade_b54 F x1 x2 (nI 1) q1.2
        else
          jm_grade_b54 F x1 x2 (nI 0) q1.2
    else
      some (nI 0, q1.2)
noncomputable def jm_grade (F : Nat) (x1 : Int32) (x2 : Int32) (S : jm_S) : Option (Int32 × jm_S) :=
  jx_nx (jm_setI S 0 (nI 0)) fun S1 =>
    (jm_noOrder F x1 S1).bind fun q2 =>
      (jm_throwsIf F q2.1 (nI 1) q2.2).bind fun q3 =>
        if q3.1 = 0 then
          (jm_isJump F x1 q3.2).bind fun q5 =>
            if q5.1 = 0 then
              jm_grade_b32 F x1 x2 (nI 1) q5.2
            else
              jm_grade_b32 F x1 x2 (nI 0) q5.2
        else
          some (nI 0, q3.2)
noncomputable def jm_ticks_b30 (F : Nat) (x1 : Int32) (x2 : Int32) (k0 : Int32) (S : jm_S) : Option (jm_S) :=
  (jm_throwsIf F k0 (nI 1) S).bind fun q1 =>
    if q1.1 = 0 then
      jx_ga ((nI 4) + x1) 412 fun j3 => jx_nx (jm_setA q1.2 1 (upd (q1.2.2.1 1) j3 x2)) fun S4 =>
        some S4
    else
      some q1.2
noncomputable def jm_ticks_b25 (F : Nat) (x1 : Int32) (x2 : Int32) (S : jm_S) : Option (jm_S) :=
  jm_ticks_b30 F x1 x2 (nI 1) S
noncomputable def jm_ticks (F : Nat) (x1 : Int32) (x2 : Int32) (S : jm_S) : Option (jm_S) :=
  jx_nx (jm_setI S 0 (nI 0)) fun S1 =>
    (jm_in x1 (nI 1) (nI 3)).bind fun q2 =>
      if q2 = 0 then
        jm_ticks_b25 F x1 x2 S1
      else
        (jm_in x2 (nI 1) (nI 99)).bind fun q4 =>
          if q4 = 0 then
            jm_ticks_b25 F x1 x2 S1
          else
            jm_ticks_b30 F x1 x2 (nI 0) S1
noncomputable def jm_all (F : Nat)  (S : jm_S) : Option (Int64 × jm_S) :=
  (jm_orders F  S).bind fun q1 =>
    some (((lN 1) <<< (q1.1.toInt64 &&& 63)) - (lN 1), q1.2)
noncomputable def jm_isCall (F : Nat) (x1 : Int32) (S : jm_S) : Option (Int32 × jm_S) :=
  (jm_wordOf F x1 S).bind fun q1 =>
    if q1.1 = (nI 5) then
      some (nI 1, q1.2)
    else
      (jm_wordOf F x1 q1.2).bind fun q3 =>
        if q3.1 = (nI 6) then
          some (nI 1, q3.2)
        else
          some (nI 0, q3.2)
noncomputable def jm_behind_b32 (F : Nat) (r4 : Int64 × Int32 × jm_S → Option (Int64 × jm_S)) (x3 : Int32) (k0 : Int64) (k1 : Int64) (S : jm_S) : Option (Int64 × jm_S) :=
  jx_nx (k1 ||| k0) fun y1 =>
    jx_nx (x3 + nI 1) fun y2 =>
      r4 (y1, y2, S)
noncomputable def jm_behind_L4 (F : Nat) (r4 : Int64 × Int32 × jm_S → Option (Int64 × jm_S)) (x1 : Int64) (x3 : Int32) (S : jm_S) : Option (Int64 × jm_S) :=
  (jm_orders F  S).bind fun q1 =>
    if q1.1 ≤ (x3 + (nI 1)) then
      some (x1, q1.2)
    else
      (jm_isCall F x3 q1.2).bind fun q3 =>
        if q3.1 = 0 then
          jm_behind_b32 F r4 x3 (lN 0) x1 q3.2
        else
          jm_behind_b32 F r4 x3 ((lN 1) <<< ((x3 + (nI 1)).toInt64 &&& 63)) x1 q3.2
noncomputable def jm_behind_h4 (F : Nat) : Nat → Int64 × Int32 × jm_S → Option (Int64 × jm_S) := jx_loop fun r (a : Int64 × Int32 × jm_S) => jm_behind_L4 F r a.1 a.2.1 a.2.2
noncomputable def jm_behind (F : Nat)  (S : jm_S) : Option (Int64 × jm_S) :=
  jx_nx (lN 0) fun y1 =>
    jx_nx (nI 0) fun y2 =>
      jm_behind_h4 F F (y1, y2, S)
noncomputable def jm_ofKind_b34 (F : Nat) (r5 : Int32 × Int64 × Int32 × jm_S → Option (Int64 × jm_S)) (x1 : Int32) (x4 : Int32) (k0 : Int64) (k1 : Int64) (S : jm_S) : Option (Int64 × jm_S) :=
  jx_nx (k1 ||| k0) fun y1 =>
    jx_nx (x4 + nI 1) fun y2 =>
      r5 (x1, y1, y2, S)
noncomputable def jm_ofKind_L5 (F : Nat) (r5 : Int32 × Int64 × Int32 × jm_S → Option (Int64 × jm_S)) (x1 : Int32) (x2 : Int64) (x4 : Int32) (S : jm_S) : Option (Int64 × jm_S) :=
  (jm_orders F  S).bind fun q1 =>
    if q1.1 ≤ x4 then
      some (x2, q1.2)
    else
      (jm_of F x4 (nI 1) q1.2).bind fun q3 =>
        if q3.1 = x1 then
          jm_ofKind_b34 F r5 x1 x4 ((lN 1) <<< (x4.toInt64 &&& 63)) x2 q3.2
        else
          jm_ofKind_b34 F r5 x1 x4 (lN 0) x2 q3.2
noncomputable def jm_ofKind_h5 (F : Nat) : Nat → Int32 × Int64 × Int32 × jm_S → Option (Int64 × jm_S) := jx_loop fun r (a : Int32 × Int64 × Int32 × jm_S) => jm_ofKind_L5 F r a.1 a.2.1 a.2.2.1 a.2.2.2
noncomputable def jm_ofKind (F : Nat) (x1 : Int32) (S : jm_S) : Option (Int64 × jm_S) :=
  jx_nx (lN 0) fun y1 =>
    jx_nx (nI 0) fun y2 =>
      jm_ofKind_h5 F F (x1, y1, y2, S)
noncomputable def jm_byKind (F : Nat) (x1 : Int32) (S : jm_S) : Option (Int64 × jm_S) :=
  (jm_wordOf F x1 S).bind fun q1 =>
    if q1.1 = (nI 7) then
      (jm_behind F  q1.2).bind fun q5 =>
        some (q5.1, q5.2)
    else
      (jm_of F x1 (nI 3) q1.2).bind fun q3 =>
        (jm_ofKind F q3.1 q3.2).bind fun q4 =>
          some (q4.1, q4.2)
noncomputable def jm_throughFlow (F : Nat) (x1 : Int32) (S : jm_S) : Option (Int64 × jm_S) :=
  (jm_of F x1 (nI 5) S).bind fun q1 =>
    jx_ga q1.1 16 fun j2 =>
      if (q1.2.2.1 13 j2) = 0 then
        (jm_of F x1 (nI 5) q1.2).bind fun q4 =>
          jx_ga q4.1 16 fun j5 =>
            (jm_all F  q4.2).bind fun q6 =>
              some ((q4.2.2.2 12 j5) &&& q6.1, q6.2)
      else
        (jm_byKind F x1 q1.2).bind fun q7 =>
          some (q7.1, q7.2)
noncomputable def jm_comesTo_b130 (F : Nat) (r7 : Int64 × Int32 × jm_S → Option (Int64 × jm_S)) (r24 : Int64 × Int32 × Int32 × jm_S → Option (Int64 × jm_S)) (x2 : Int64) (x4 : Int32) (x5 : Int32) (S : jm_S) : Option (Int64 × jm_S) :=
  jx_nx (x5 + (-1 : Int32)) fun y1 =>
    r24 (x2, x4, y1, S)
noncomputable def jm_comesTo_b114 (F : Nat) (r7 : Int64 × Int32 × jm_S → Option (Int64 × jm_S)) (r24 : Int64 × Int32 × Int32 × jm_S → Option (Int64 × jm_S)) (x2 : Int64) (x4 : Int32) (x5 : Int32) (x6 : Int64) (S : jm_S) : Option (Int64 × jm_S) :=
  if (lg_cmp (x6 &&& x2) (lN 0)) = 0 then
    jm_comesTo_b130 F r7 r24 x2 x4 x5 S
  else
    jx_nx (x2 ||| ((lN 1) <<< (x5.toInt64 &&& 63))) fun y2 =>
      jm_comesTo_b130 F r7 r24 y2 x4 x5 S
noncomputable def jm_comesTo_b66 (F : Nat) (r7 : Int64 × Int32 × jm_S → Option (Int64 × jm_S)) (r24 : Int64 × Int32 × Int32 × jm_S → Option (Int64 × jm_S)) (x2 : Int64) (x4 : Int32) (x5 : Int32) (x6 : Int64) (x8 : Int32) (S : jm_S) : Option (Int64 × jm_S) :=
  if x8 = (nI 4) then
    (jm_throughFlow F x5 S).bind fun q6 =>
      jx_nx (q6.1) fun y7 =>
        jm_comesTo_b114 F r7 r24 x2 x4 x5 y7 q6.2
  else
    if x8 = (nI 2) then
      jm_comesTo_b114 F r7 r24 x2 x4 x5 x6 S
    else
      if x8 = (nI 7) then
        jm_comesTo_b114 F r7 r24 x2 x4 x5 x6 S
      else
        if x8 = (nI 9) then
          jm_comesTo_b114 F r7 r24 x2 x4 x5 x6 S
        else
          jx_nx (x6 ||| ((lN 1) <<< ((x5 + (nI 1)).toInt64 &&& 63))) fun y5 =>
            jm_comesTo_b114 F r7 r24 x2 x4 x5 y5 S
noncomputable def jm_comesTo_b52 (F : Nat) (r7 : Int64 × Int32 × jm_S → Option (Int64 × jm_S)) (r24 : Int64 × Int32 × Int32 × jm_S → Option (Int64 × jm_S)) (x2 : Int64) (x4 : Int32) (x5 : Int32) (x6 : Int64) (x8 : Int32) (S : jm_S) : Option (Int64 × jm_S) :=
  (jm_of F x5 (nI 4) S).bind fun q1 =>
    jx_nx (x6 ||| ((lN 1) <<< (q1.1.toInt64 &&& 63))) fun y2 =>
      jm_comesTo_b66 F r7 r24 x2 x4 x5 y2 x8 q1.2
noncomputable def jm_comesTo_L24 (F : Nat) (r7 : Int64 × Int32 × jm_S → Option (Int64 × jm_S)) (r24 : Int64 × Int32 × Int32 × jm_S → Option (Int64 × jm_S)) (x2 : Int64) (x4 : Int32) (x5 : Int32) (S : jm_S) : Option (Int64 × jm_S) :=
  if x5 < 0 then
    jx_nx (x4 + nI 1) fun y2 =>
      r7 (x2, y2, S)
  else
    jx_nx (lN 0) fun y3 =>
      (jm_wordOf F x5 S).bind fun q4 =>
        jx_nx (q4.1) fun y5 =>
          if y5 = (nI 2) then
            jm_comesTo_b52 F r7 r24 x2 x4 x5 y3 y5 q4.2
          else
            if y5 = (nI 3) then
              jm_comesTo_b52 F r7 r24 x2 x4 x5 y3 y5 q4.2
            else
              jm_comesTo_b66 F r7 r24 x2 x4 x5 y3 y5 q4.2
noncomputable def jm_comesTo_h24 (F : Nat) (r7 : Int64 × Int32 × jm_S → Option (Int64 × jm_S)) : Nat → Int64 × Int32 × Int32 × jm_S → Option (Int64 × jm_S) := jx_loop fun r (a : Int64 × Int32 × Int32 × jm_S) => jm_comesTo_L24 F r7 r a.1 a.2.1 a.2.2.1 a.2.2.2
noncomputable def jm_comesTo_L7 (F : Nat) (r7 : Int64 × Int32 × jm_S → Option (Int64 × jm_S)) (x2 : Int64) (x4 : Int32) (S : jm_S) : Option (Int64 × jm_S) :=
  (jm_orders F  S).bind fun q1 =>
    if q1.1 ≤ x4 then
      some (x2, q1.2)
    else
      (jm_orders F  q1.2).bind fun q3 =>
        jx_nx (q3.1 - (nI 1)) fun y4 =>
          jm_comesTo_h24 F r7 F (x2, x4, y4, q3.2)
noncomputable def jm_comesTo_h7 (F : Nat) : Nat → Int64 × Int32 × jm_S → Option (Int64 × jm_S) := jx_loop fun r (a : Int64 × Int32 × jm_S) => jm_comesTo_L7 F r a.1 a.2.1 a.2.2
noncomputable def jm_comesTo (F : Nat) (x1 : Int32) (S : jm_S) : Option (Int64 × jm_S) :=
  jx_nx ((lN 1) <<< (x1.toInt64 &&& 63)) fun y1 =>
    jx_nx (nI 0) fun y2 =>
      jm_comesTo_h7 F F (y1, y2, S)
noncomputable def jm_byFlow_b110 (F : Nat) (r28 : Int64 × Int64 × Int32 × jm_S → Option (Int64 × jm_S)) (x2 : Int64) (x4 : Int64) (x6 : Int32) (S : jm_S) : Option (Int64 × jm_S) :=
  jx_nx (x6 + nI 1) fun y1 =>
    r28 (x2, x4, y1, S)
noncomputable def jm_byFlow_b107 (F : Nat) (r28 : Int64 × Int64 × Int32 × jm_S → Option (Int64 × jm_S)) (x2 : Int64) (x6 : Int32) (k0 : Int64) (k1 : Int64) (S : jm_S) : Option (Int64 × jm_S) :=
  jx_nx (k1 ||| k0) fun y1 =>
    jm_byFlow_b110 F r28 x2 y1 x6 S
noncomputable def jm_byFlow_b84 (F : Nat) (r28 : Int64 × Int64 × Int32 × jm_S → Option (Int64 × jm_S)) (x2 : Int64) (x4 : Int64) (x6 : Int32) (k0 : Int64) (S : jm_S) : Option (Int64 × jm_S) :=
  if (lg_cmp (k0 &&& x2) (lN 0)) = 0 then
    jm_byFlow_b107 F r28 x2 x6 (lN 0) x4 S
  else
    jm_byFlow_b107 F r28 x2 x6 ((lN 1) <<< ((x6 + (nI 1)).toInt64 &&& 63)) x4 S
noncomputable def jm_byFlow_L28 (F : Nat) (r28 : Int64 × Int64 × Int32 × jm_S → Option (Int64 × jm_S)) (x2 : Int64) (x4 : Int64) (x6 : Int32) (S : jm_S) : Option (Int64 × jm_S) :=
  (jm_orders F  S).bind fun q1 =>
    if q1.1 ≤ (x6 + (nI 1)) then
      some (x4, q1.2)
    else
      (jm_isCall F x6 q1.2).bind fun q3 =>
        if q3.1 = 0 then
          jm_byFlow_b110 F r28 x2 x4 x6 q3.2
        else
          (jm_wordOf F x6 q3.2).bind fun q5 =>
            if q5.1 = (nI 5) then
              (jm_of F x6 (nI 4) q5.2).bind fun q8 =>
                (jm_all F  q8.2).bind fun q9 =>
                  jm_byFlow_b84 F r28 x2 x4 x6 (((lN 1) <<< (q8.1.toInt64 &&& 63)) &&& q9.1) q9.2
            else
              (jm_throughFlow F x6 q5.2).bind fun q7 =>
                jm_byFlow_b84 F r28 x2 x4 x6 q7.1 q7.2
noncomputable def jm_byFlow_h28 (F : Nat) : Nat → Int64 × Int64 × Int32 × jm_S → Option (Int64 × jm_S) := jx_loop fun r (a : Int64 × Int64 × Int32 × jm_S) => jm_byFlow_L28 F r a.1 a.2.1 a.2.2.1 a.2.2.2
noncomputable def jm_byFlow (F : Nat) (x1 : Int32) (S : jm_S) : Option (Int64 × jm_S) :=
  (jm_wordOf F x1 S).bind fun q1 =>
    if q1.1 = (nI 7) then
      (jm_comesTo F x1 q1.2).bind fun q3 =>
        jx_nx (q3.1) fun y4 =>
          jx_nx (lN 0) fun y5 =>
            jx_nx (nI 0) fun y6 =>
              jm_byFlow_h28 F F (y4, y5, y6, q3.2)
    else
      (jm_throughFlow F x1 q1.2).bind fun q7 =>
        some (q7.1, q7.2)
noncomputable def jm_flows_b174 (F : Nat) (r30 : Int32 × jm_S → Option (jm_S)) (r38 : Int32 × Int32 × jm_S → Option (jm_S)) (x1 : Int32) (x2 : Int32) (S : jm_S) : Option (jm_S) :=
  jx_nx (x2 + nI 1) fun y1 =>
    r38 (x1, y1, S)
noncomputable def jm_flows_b118 (F : Nat) (r30 : Int32 × jm_S → Option (jm_S)) (r38 : Int32 × Int32 × jm_S → Option (jm_S)) (x1 : Int32) (x2 : Int32) (x3 : Int32) (S : jm_S) : Option (jm_S) :=
  jx_ga x3 16 fun j1 => jx_nx (jm_setA S 13 (upd (S.2.1 13) j1 (vp_nar .boolean (nI 1)))) fun S2 =>
    jm_flows_b174 F r30 r38 x1 x2 S2
noncomputable def jm_flows_b173 (F : Nat) (r30 : Int32 × jm_S → Option (jm_S)) (r38 : Int32 × Int32 × jm_S → Option (jm_S)) (x1 : Int32) (x2 : Int32) (k0 : Int32) (k1 : Int32) (S : jm_S) : Option (jm_S) :=
  jx_ga k1 16 fun j1 => jx_nx (jm_setA S 13 (upd (S.2.1 13) j1 (vp_nar .boolean k0))) fun S2 =>
    jm_flows_b174 F r30 r38 x1 x2 S2
noncomputable def jm_flows_b168 (F : Nat) (r30 : Int32 × jm_S → Option (jm_S)) (r38 : Int32 × Int32 × jm_S → Option (jm_S)) (x1 : Int32) (x2 : Int32) (k0 : Int32) (S : jm_S) : Option (jm_S) :=
  jm_flows_b173 F r30 r38 x1 x2 (nI 1) k0 S
noncomputable def jm_flows_b79 (F : Nat) (r30 : Int32 × jm_S → Option (jm_S)) (r38 : Int32 × Int32 × jm_S → Option (jm_S)) (x1 : Int32) (x2 : Int32) (x3 : Int32) (S : jm_S) : Option (jm_S) :=
  (jm_wordOf F x2 S).bind fun q1 =>
    if q1.1 = 0 then
      (jm_of F x2 (nI 6) q1.2).bind fun q3 =>
        jx_nx (q3.1 - (nI 1000)) fun y4 =>
          (jm_of F x2 (nI 8) q3.2).bind fun q5 =>
            if q5.1 = 0 then
              if 0 ≤ y4 then
                jx_ga x3 16 fun j8 =>
                  jx_ga y4 16 fun j9 =>
                    jx_ga x3 16 fun j10 => jx_nx (jm_setL q5.2 12 (vp_updL (q5.2.2.2 12) j10 ((q5.2.2.2 12 j8) ||| (q5.2.2.2 12 j9)))) fun S11 =>
                      jx_ga x3 16 fun j12 =>
                        if (S11.2.1 13 j12) = 0 then
                          jx_ga y4 16 fun j14 =>
                            if (S11.2.1 13 j14) = 0 then
                              jm_flows_b173 F r30 r38 x1 x2 (nI 0) x3 S11
                            else
                              jm_flows_b168 F r30 r38 x1 x2 x3 S11
                        else
                          jm_flows_b168 F r30 r38 x1 x2 x3 S11
              else
                jm_flows_b118 F r30 r38 x1 x2 x3 q5.2
            else
              jm_flows_b118 F r30 r38 x1 x2 x3 q5.2
    else
      jm_flows_b174 F r30 r38 x1 x2 q1.2
noncomputable def jm_flows_L38 (F : Nat) (r30 : Int32 × jm_S → Option (jm_S)) (r38 : Int32 × Int32 × jm_S → Option (jm_S)) (x1 : Int32) (x2 : Int32) (S : jm_S) : Option (jm_S) :=
  (jm_orders F  S).bind fun q1 =>
    if q1.1 ≤ x2 then
      jx_nx (x1 + nI 1) fun y3 =>
        r30 (y3, q1.2)
    else
      (jm_of F x2 (nI 5) q1.2).bind fun q4 =>
        jx_nx (q4.1) fun y5 =>
          (jm_wordOf F x2 q4.2).bind fun q6 =>
            if q6.1 = (nI 1) then
              jx_ga y5 16 fun j8 =>
                (jm_of F x2 (nI 4) q6.2).bind fun q9 =>
                  jx_ga y5 16 fun j10 => jx_nx (jm_setL q9.2 12 (vp_updL (q9.2.2.2 12) j10 ((q6.2.2.2 12 j8) ||| ((lN 1) <<< (q9.1.toInt64 &&& 63))))) fun S11 =>
                    jm_flows_b79 F r30 r38 x1 x2 y5 S11
            else
              jm_flows_b79 F r30 r38 x1 x2 y5 q6.2
noncomputable def jm_flows_h38 (F : Nat) (r30 : Int32 × jm_S → Option (jm_S)) : Nat → Int32 × Int32 × jm_S → Option (jm_S) := jx_loop fun r (a : Int32 × Int32 × jm_S) => jm_flows_L38 F r30 r a.1 a.2.1 a.2.2
noncomputable def jm_flows_b241 (F : Nat) (r188 : Int32 × jm_S → Option (jm_S)) (x1 : Int32) (k0 : Int64) (k1 : Int32) (S : jm_S) : Option (jm_S) :=
  jx_ga k1 40 fun j1 => jx_nx (jm_setL S 15 (vp_updL (S.2.2 15) j1 k0)) fun S2 =>
    jx_nx (x1 + nI 1) fun y3 =>
      r188 (y3, S2)
noncomputable def jm_flows_b218 (F : Nat) (r188 : Int32 × jm_S → Option (jm_S)) (x1 : Int32) (k0 : Int64) (k1 : Int32) (S : jm_S) : Option (jm_S) :=
  jx_ga k1 40 fun j1 => jx_nx (jm_setL S 14 (vp_updL (S.2.2 14) j1 k0)) fun S2 =>
    (jm_isJump F x1 S2).bind fun q3 =>
      if q3.1 = 0 then
        jm_flows_b241 F r188 x1 (lN 0) x1 q3.2
      else
        (jm_byFlow F x1 q3.2).bind fun q5 =>
          jm_flows_b241 F r188 x1 q5.1 x1 q5.2
noncomputable def jm_flows_L188 (F : Nat) (r188 : Int32 × jm_S → Option (jm_S)) (x1 : Int32) (S : jm_S) : Option (jm_S) :=
  (jm_orders F  S).bind fun q1 =>
    if q1.1 ≤ x1 then
      some q1.2
    else
      (jm_isJump F x1 q1.2).bind fun q3 =>
        if q3.1 = 0 then
          jm_flows_b218 F r188 x1 (lN 0) x1 q3.2
        else
          (jm_byKind F x1 q3.2).bind fun q5 =>
            jm_flows_b218 F r188 x1 q5.1 x1 q5.2
noncomputable def jm_flows_h188 (F : Nat) : Nat → Int32 × jm_S → Option (jm_S) := jx_loop fun r (a : Int32 × jm_S) => jm_flows_L188 F r a.1 a.2
noncomputable def jm_flows_L30 (F : Nat) (r30 : Int32 × jm_S → Option (jm_S)) (x1 : Int32) (S : jm_S) : Option (jm_S) :=
  if (nI 16) < x1 then
    jx_nx (nI 0) fun y2 =>
      jm_flows_h188 F F (y2, S)
  else
    jx_nx (nI 0) fun y3 =>
      jm_flows_h38 F r30 F (x1, y3, S)
noncomputable def jm_flows_h30 (F : Nat) : Nat → Int32 × jm_S → Option (jm_S) := jx_loop fun r (a : Int32 × jm_S) => jm_flows_L30 F r a.1 a.2
noncomputable def jm_flows_L2 (F : Nat) (r2 : Int32 × jm_S → Option (jm_S)) (x1 : Int32) (S : jm_S) : Option (jm_S) :=
  if (nI 16) ≤ x1 then
    jx_nx (nI 0) fun y2 =>
      jm_flows_h30 F F (y2, S)
  else
    jx_ga x1 16 fun j3 => jx_nx (jm_setL S 12 (vp_updL (S.2.2 12) j3 (lN 0))) fun S4 =>
      jx_ga x1 16 fun j5 => jx_nx (jm_setA S4 13 (upd (S4.2.1 13) j5 (vp_nar .boolean (nI 0)))) fun S6 =>
        jx_nx (x1 + nI 1) fun y7 =>
          r2 (y7, S6)
noncomputable def jm_flows_h2 (F : Nat) : Nat → Int32 × jm_S → Option (jm_S) := jx_loop fun r (a : Int32 × jm_S) => jm_flows_L2 F r a.1 a.2
noncomputable def jm_flows (F : Nat)  (S : jm_S) : Option (jm_S) :=
  jx_nx (nI 0) fun y1 =>
    jm_flows_h2 F F (y1, S)
noncomputable def jm_noJump_b27 (F : Nat) (k0 : Int32) (S : jm_S) : Option (Int32 × jm_S) :=
  (jm_throwsIf F k0 (nI 2) S).bind fun q1 =>
    if q1.1 = 0 then
      some (nI 0, q1.2)
    else
      some (nI 1, q1.2)
noncomputable def jm_noJump (F : Nat) (x1 : Int32) (S : jm_S) : Option (Int32 × jm_S) :=
  (jm_noOrder F x1 S).bind fun q1 =>
    (jm_throwsIf F q1.1 (nI 1) q1.2).bind fun q2 =>
      if q2.1 = 0 then
        (jm_isJump F x1 q2.2).bind fun q4 =>
          if q4.1 = 0 then
            jm_noJump_b27 F (nI 1) q4.2
          else
            jm_noJump_b27 F (nI 0) q4.2
      else
        some (nI 1, q2.2)
noncomputable def jm_landings (F : Nat) (x1 : Int32) (x2 : Int32) (S : jm_S) : Option (Int64 × jm_S) :=
  jx_nx (jm_setI S 0 (nI 0)) fun S1 =>
    (jm_noJump F x1 S1).bind fun q2 =>
      if q2.1 = 0 then
        (jm_flows F  q2.2).bind fun q4 =>
          if x2 = 0 then
            jx_ga x1 40 fun j6 =>
              some (q4.2.2 14 j6, q4)
          else
            jx_ga x1 40 fun j7 =>
              some (q4.2.2 15 j7, q4)
      else
        some (lN 0, q2.2)
noncomputable def jm_letsBy (F : Nat) (x1 : Int32) (x2 : Int32) (S : jm_S) : Option (Int64 × jm_S) :=
  if x2 = 0 then
    (jm_all F  S).bind fun q5 =>
      some (q5.1, q5.2)
  else
    if x2 = (nI 1) then
      jx_ga x1 40 fun j4 =>
        some (S.2.2 14 j4, S)
    else
      jx_ga x1 40 fun j3 =>
        some (S.2.2 15 j3, S)
noncomputable def jm_lets (F : Nat) (x1 : Int32) (S : jm_S) : Option (Int64 × jm_S) :=
  jx_nx (jm_setI S 0 (nI 0)) fun S1 =>
    (jm_noJump F x1 S1).bind fun q2 =>
      if q2.1 = 0 then
        (jm_flows F  q2.2).bind fun q4 =>
          (jm_of F x1 (nI 2) q4).bind fun q5 =>
            (jm_letsBy F x1 q5.1 q5.2).bind fun q6 =>
              some (q6.1, q6.2)
      else
        some (lN 0, q2.2)
noncomputable def jm_holds (F : Nat) (x1 : Int32) (S : jm_S) : Option (Int64 × jm_S) :=
  jx_nx (jm_setI S 0 (nI 0)) fun S1 =>
    (jm_noCell x1).bind fun q2 =>
      (jm_throwsIf F q2 (nI 1) S1).bind fun q3 =>
        if q3.1 = 0 then
          (jm_flows F  q3.2).bind fun q5 =>
            jx_ga x1 16 fun j6 =>
              some (q5.2.2 12 j6, q5)
        else
          some (lN 0, q3.2)
noncomputable def jm_odd (F : Nat) (x1 : Int32) (S : jm_S) : Option (Int32 × jm_S) :=
  jx_nx (jm_setI S 0 (nI 0)) fun S1 =>
    (jm_noCell x1).bind fun q2 =>
      (jm_throwsIf F q2 (nI 1) S1).bind fun q3 =>
        if q3.1 = 0 then
          (jm_flows F  q3.2).bind fun q5 =>
            jx_ga x1 16 fun j6 =>
              jx_gz (q5.2.1 13 j6) (some (q5.2.1 13 j6, q5))
        else
          some (nI 0, q3.2)
noncomputable def jm_bend_b69 (F : Nat) (x1 : Int32) (x2 : Int32) (x3 : Int32) (k0 : Int32) (S : jm_S) : Option (Int32 × jm_S) :=
  (jm_throwsIf F k0 (nI 3) S).bind fun q1 =>
    if q1.1 = 0 then
      jx_ga (nI 1) 412 fun j3 =>
        jx_nx ((nI 368) + ((nI 3) * (q1.2.2.1 1 j3))) fun y4 =>
          jx_ga y4 412 fun j5 => jx_nx (jm_setA q1.2 1 (upd (q1.2.2.1 1) j5 x1)) fun S6 =>
            jx_ga (y4 + (nI 1)) 412 fun j7 => jx_nx (jm_setA S6 1 (upd (S6.2.1 1) j7 x2)) fun S8 =>
              jx_ga (y4 + (nI 2)) 412 fun j9 => jx_nx (jm_setA S8 1 (upd (S8.2.1 1) j9 x3)) fun S10 =>
                jx_ga (nI 1) 412 fun j11 =>
                  jx_ga (nI 1) 412 fun j12 => jx_nx (jm_setA S10 1 (upd (S10.2.1 1) j12 ((S10.2.1 1 j11) + (nI 1)))) fun S13 =>
                    jx_ga (nI 1) 412 fun j14 =>
                      some ((S13.2.1 1 j14) - (nI 1), S13)
    else
      some (nI 0, q1.2)
noncomputable def jm_bend_b45 (F : Nat) (x1 : Int32) (x2 : Int32) (x3 : Int32) (k0 : Int32) (S : jm_S) : Option (Int32 × jm_S) :=
  (jm_throwsIf F k0 (nI 2) S).bind fun q1 =>
    if q1.1 = 0 then
      jx_ga (nI 1) 412 fun j3 =>
        if (q1.2.2.1 1 j3) = (nI 8) then
          jm_bend_b69 F x1 x2 x3 (nI 1) q1.2
        else
          jm_bend_b69 F x1 x2 x3 (nI 0) q1.2
    else
      some (nI 0, q1.2)
noncomputable def jm_bend_b21 (F : Nat) (x1 : Int32) (x2 : Int32) (x3 : Int32) (k0 : Int32) (S : jm_S) : Option (Int32 × jm_S) :=
  (jm_throwsIf F k0 (nI 1) S).bind fun q1 =>
    if q1.1 = 0 then
      (jm_in x1 (nI 0) (nI 299)).bind fun q3 =>
        if q3 = 0 then
          jm_bend_b45 F x1 x2 x3 (nI 1) q1.2
        else
          jm_bend_b45 F x1 x2 x3 (nI 0) q1.2
    else
      some (nI 0, q1.2)
noncomputable def jm_bend (F : Nat) (x1 : Int32) (x2 : Int32) (x3 : Int32) (S : jm_S) : Option (Int32 × jm_S) :=
  jx_nx (jm_setI S 0 (nI 0)) fun S1 =>
    (jm_in x2 (nI 0) (nI 16)).bind fun q2 =>
      if q2 = 0 then
        jm_bend_b21 F x1 x2 x3 (nI 1) S1
      else
        jm_bend_b21 F x1 x2 x3 (nI 0) S1
noncomputable def jm_straight (F : Nat)  (S : jm_S) : Option (Int32 × jm_S) :=
  jx_nx (jm_setI S 0 (nI 0)) fun S1 =>
    jx_ga (nI 1) 412 fun j2 =>
      jx_nx (S1.2.1 1 j2) fun y3 =>
        jx_ga (nI 1) 412 fun j4 => jx_nx (jm_setA S1 1 (upd (S1.2.1 1) j4 (nI 0))) fun S5 =>
          some (y3, S5)
noncomputable def jm_begins_L2 (F : Nat) (r2 : Int32 × jm_S → Option (jm_S)) (x1 : Int32) (S : jm_S) : Option (jm_S) :=
  if (nI 16) ≤ x1 then
    jx_nx (jm_setI S 21 (nI 0)) fun S2 =>
      jx_nx (jm_setI S2 24 (nI 0)) fun S3 =>
        jx_nx (jm_setI S3 25 (nI 0)) fun S4 =>
          jx_nx (jm_setI S4 27 (nI 0)) fun S5 =>
            jx_nx (jm_setI S5 28 (nI 0)) fun S6 =>
              jx_nx (jm_setI S6 29 (nI 0)) fun S7 =>
                jx_nx (jm_setI S7 30 (-1 : Int32)) fun S8 =>
                  jx_nx (jm_setI S8 31 (-1 : Int32)) fun S9 =>
                    jx_nx (jm_setI S9 32 (nI 0)) fun S10 =>
                      some S10
  else
    jx_ga x1 16 fun j11 => jx_nx (jm_setA S 16 (upd (S.2.1 16) j11 (nI 0))) fun S12 =>
      jx_ga x1 16 fun j13 => jx_nx (jm_setA S12 17 (upd (S12.2.1 17) j13 (-1 : Int32))) fun S14 =>
        jx_nx (x1 + nI 1) fun y15 =>
          r2 (y15, S14)
noncomputable def jm_begins_h2 (F : Nat) : Nat → Int32 × jm_S → Option (jm_S) := jx_loop fun r (a : Int32 × jm_S) => jm_begins_L2 F r a.1 a.2
noncomputable def jm_begins (F : Nat)  (S : jm_S) : Option (jm_S) :=
  jx_nx (nI 0) fun y1 =>
    jm_begins_h2 F F (y1, S)
noncomputable def jm_bendsNow_b113 (F : Nat) (r2 : Int32 × jm_S → Option (jm_S)) (x1 : Int32) (S : jm_S) : Option (jm_S) :=
  jx_nx (x1 + nI 1) fun y1 =>
    r2 (y1, S)
noncomputable def jm_bendsNow_L2 (F : Nat) (r2 : Int32 × jm_S → Option (jm_S)) (x1 : Int32) (S : jm_S) : Option (jm_S) :=
  jx_ga (nI 1) 412 fun j1 =>
    if (S.2.1 1 j1) ≤ x1 then
      some S
    else
      jx_nx ((nI 368) + ((nI 3) * x1)) fun y3 =>
        jx_ga y3 412 fun j4 =>
          if (S.2.1 1 j4) = (S.1 24) then
            jx_ga (y3 + (nI 1)) 412 fun j6 =>
              jx_nx (S.2.1 1 j6) fun y7 =>
                if (nI 16) ≤ y7 then
                  if (S.1 21) ≤ 0 then
                    jm_bendsNow_b113 F r2 x1 S
                  else
                    jx_ga (y3 + (nI 2)) 412 fun j10 =>
                      jx_ga ((S.1 21) - (nI 1)) 8 fun j11 => jx_nx (jm_setA S 18 (upd (S.2.1 18) j11 (S.2.1 1 j10))) fun S12 =>
                        jx_ga ((S12.1 21) - (nI 1)) 8 fun j13 => jx_nx (jm_setA S12 19 (upd (S12.2.1 19) j13 x1)) fun S14 =>
                          jm_bendsNow_b113 F r2 x1 S14
                else
                  jx_ga (y3 + (nI 2)) 412 fun j15 =>
                    jx_ga y7 16 fun j16 => jx_nx (jm_setA S 16 (upd (S.2.1 16) j16 (S.2.1 1 j15))) fun S17 =>
                      jx_ga y7 16 fun j18 => jx_nx (jm_setA S17 17 (upd (S17.2.1 17) j18 x1)) fun S19 =>
                        jm_bendsNow_b113 F r2 x1 S19
          else
            jm_bendsNow_b113 F r2 x1 S
noncomputable def jm_bendsNow_h2 (F : Nat) : Nat → Int32 × jm_S → Option (jm_S) := jx_loop fun r (a : Int32 × jm_S) => jm_bendsNow_L2 F r a.1 a.2
noncomputable def jm_bendsNow (F : Nat)  (S : jm_S) : Option (jm_S) :=
  jx_nx (nI 0) fun y1 =>
    jm_bendsNow_h2 F F (y1, S)
noncomputable def jm_valueOf (F : Nat) (x1 : Int32) (S : jm_S) : Option (Int32 × jm_S) :=
  if x1 < (nI 1000) then
    some (x1, S)
  else
    jx_ga (x1 - (nI 1000)) 16 fun j2 =>
      some (S.2.1 16 j2, S)
noncomputable def jm_isSo (F : Nat) (x1 : Int32) (S : jm_S) : Option (Int32 × jm_S) :=
  (jm_of F x1 (nI 6) S).bind fun q1 =>
    (jm_valueOf F q1.1 q1.2).bind fun q2 =>
      jx_nx (q2.1) fun y3 =>
        (jm_of F x1 (nI 7) q2.2).bind fun q4 =>
          (jm_valueOf F q4.1 q4.2).bind fun q5 =>
            jx_nx (q5.1) fun y6 =>
              (jm_of F x1 (nI 8) q5.2).bind fun q7 =>
                jx_nx (q7.1) fun y8 =>
                  if y8 = (nI 60) then
                    if y6 ≤ y3 then
                      some (nI 0, q7.2)
                    else
                      some (nI 1, q7.2)
                  else
                    if y8 = (nI 62) then
                      if y3 ≤ y6 then
                        some (nI 0, q7.2)
                      else
                        some (nI 1, q7.2)
                    else
                      if y3 = y6 then
                        some (nI 1, q7.2)
                      else
                        some (nI 0, q7.2)
noncomputable def jm_keepsPlace (F : Nat) (x1 : Int32) (S : jm_S) : Option (jm_S) :=
  jx_ga (S.1 21) 8 fun j1 => jx_nx (jm_setA S 18 (upd (S.2.1 18) j1 (x1 + (nI 1)))) fun S2 =>
    jx_ga (S2.1 21) 8 fun j3 => jx_nx (jm_setA S2 19 (upd (S2.2.1 19) j3 (-1 : Int32))) fun S4 =>
      jx_ga (S4.1 21) 8 fun j5 => jx_nx (jm_setA S4 20 (upd (S4.2.1 20) j5 (x1 + (nI 1)))) fun S6 =>
        jx_nx (jm_setI S6 21 ((S6.1 21) + (nI 1))) fun S7 =>
          some S7
noncomputable def jm_sumOf (F : Nat) (x1 : Int32) (S : jm_S) : Option (Int64 × jm_S) :=
  (jm_of F x1 (nI 6) S).bind fun q1 =>
    (jm_valueOf F q1.1 q1.2).bind fun q2 =>
      jx_nx (q2.1.toInt64) fun y3 =>
        (jm_of F x1 (nI 8) q2.2).bind fun q4 =>
          jx_nx (q4.1) fun y5 =>
            if y5 = 0 then
              some (y3, q4.2)
            else
              (jm_of F x1 (nI 7) q4.2).bind fun q7 =>
                (jm_valueOf F q7.1 q7.2).bind fun q8 =>
                  jx_nx (q8.1.toInt64) fun y9 =>
                    if y5 = (nI 43) then
                      some (y3 + y9, q8.2)
                    else
                      if y5 = (nI 45) then
                        some (y3 - y9, q8.2)
                      else
                        some (y3 * y9, q8.2)
noncomputable def jm_writes (F : Nat) (x1 : Int32) (x2 : Int32) (S : jm_S) : Option (jm_S) :=
  jx_ga x1 16 fun j1 => jx_nx (jm_setA S 16 (upd (S.2.1 16) j1 x2)) fun S2 =>
    jx_ga x1 16 fun j3 => jx_nx (jm_setA S2 17 (upd (S2.2.1 17) j3 (-1 : Int32))) fun S4 =>
      some S4
noncomputable def jm_does (F : Nat) (x1 : Int32) (S : jm_S) : Option (Int32 × jm_S) :=
  (jm_of F x1 (nI 5) S).bind fun q1 =>
    jx_nx (q1.1) fun y2 =>
      (jm_wordOf F x1 q1.2).bind fun q3 =>
        if q3.1 = nI 0 then
          (jm_sumOf F x1 q3.2).bind fun q4 =>
            (jm_writes F y2 q4.1.toInt32 q4.2).bind fun q5 =>
              some (x1 + (nI 1), q5)
        else
          if q3.1 = nI 1 then
            (jm_of F x1 (nI 4) q3.2).bind fun q6 =>
              (jm_writes F y2 q6.1 q6.2).bind fun q7 =>
                some (x1 + (nI 1), q7)
          else
            if q3.1 = nI 2 then
              (jm_of F x1 (nI 4) q3.2).bind fun q8 =>
                some (q8.1, q8.2)
            else
              if q3.1 = nI 3 then
                (jm_isSo F x1 q3.2).bind fun q9 =>
                  if q9.1 = 0 then
                    some (x1 + (nI 1), q9.2)
                  else
                    (jm_of F x1 (nI 4) q9.2).bind fun q11 =>
                      some (q11.1, q11.2)
              else
                if q3.1 = nI 4 then
                  jx_ga y2 16 fun j12 =>
                    some (q3.2.2.1 16 j12, q3.2)
                else
                  if q3.1 = nI 5 then
                    (jm_keepsPlace F x1 q3.2).bind fun q13 =>
                      (jm_of F x1 (nI 4) q13).bind fun q14 =>
                        some (q14.1, q14.2)
                  else
                    if q3.1 = nI 6 then
                      (jm_keepsPlace F x1 q3.2).bind fun q15 =>
                        jx_ga y2 16 fun j16 =>
                          some (q15.2.1 16 j16, q15)
                    else
                      if q3.1 = nI 7 then
                        jx_nx (jm_setI q3.2 21 ((q3.2.1 21) - (nI 1))) fun S17 =>
                          jx_ga (S17.1 21) 8 fun j18 =>
                            some (S17.2.1 18 j18, S17)
                      else
                        if q3.1 = nI 8 then
                          (jm_of F x1 (nI 6) q3.2).bind fun q19 =>
                            (jm_valueOf F q19.1 q19.2).bind fun q20 =>
                              jx_ga (q3.2.1 25) 300 fun j21 => jx_nx (jm_setA q20.2 23 (upd (q20.2.2.1 23) j21 q20.1)) fun S22 =>
                                jx_nx (jm_setI S22 25 ((S22.1 25) + (nI 1))) fun S23 =>
                                  some (x1 + (nI 1), S23)
                        else
                          some (x1, q3.2)
noncomputable def jm_landingOf (F : Nat) (x1 : Int32) (S : jm_S) : Option (Int32 × jm_S) :=
  (jm_wordOf F x1 S).bind fun q1 =>
    if q1.1 = (nI 7) then
      jx_ga ((q1.2.1 21) - (nI 1)) 8 fun j5 =>
        some (q1.2.2.1 18 j5, q1.2)
    else
      (jm_of F x1 (nI 5) q1.2).bind fun q3 =>
        jx_ga q3.1 16 fun j4 =>
          some (q3.2.2.1 16 j4, q3.2)
noncomputable def jm_isGuarded_b55 (F : Nat) (x1 : Int32) (x2 : Int32) (S : jm_S) : Option (Int32 × jm_S) :=
  (jm_in x2 (nI 0) (nI 39)).bind fun q1 =>
    if q1 = 0 then
      some (nI 1, S)
    else
      jx_ga x1 40 fun j3 =>
        (jm_has (S.2.2 33 j3) x2).bind fun q4 =>
          if q4 = 0 then
            some (nI 1, S)
          else
            some (nI 0, S)
noncomputable def jm_isGuarded (F : Nat) (x1 : Int32) (S : jm_S) : Option (Int32 × jm_S) :=
  (jm_landingOf F x1 S).bind fun q1 =>
    jx_nx (q1.1) fun y2 =>
      (jm_of F x1 (nI 2) q1.2).bind fun q3 =>
        jx_nx (q3.1) fun y4 =>
          if y4 = 0 then
            some (nI 0, q3.2)
          else
            if y4 = (nI 3) then
              (jm_wordOf F x1 q3.2).bind fun q7 =>
                if q7.1 = (nI 7) then
                  jx_ga ((q7.2.1 21) - (nI 1)) 8 fun j9 =>
                    if y2 = (q7.2.2.1 20 j9) then
                      some (nI 0, q7.2)
                    else
                      some (nI 1, q7.2)
                else
                  jm_isGuarded_b55 F x1 y2 q7.2
            else
              jm_isGuarded_b55 F x1 y2 q3.2
noncomputable def jm_isTrapped_b67 (F : Nat) (x2 : Int32) (S : jm_S) : Option (Int32 × jm_S) :=
  if x2 = (nI 7) then
    if (S.1 21) = 0 then
      some (nI 1, S)
    else
      some (nI 0, S)
  else
    some (nI 0, S)
noncomputable def jm_isTrapped (F : Nat) (x1 : Int32) (S : jm_S) : Option (Int32 × jm_S) :=
  (jm_noOrder F x1 S).bind fun q1 =>
    if q1.1 = 0 then
      (jm_wordOf F x1 q1.2).bind fun q3 =>
        jx_nx (q3.1) fun y4 =>
          if y4 = 0 then
            (jm_sumOf F x1 q3.2).bind fun q9 =>
              if 0 < (lg_cmp q9.1 (99999 : Int64)) then
                some (nI 1, q9.2)
              else
                (jm_sumOf F x1 q9.2).bind fun q11 =>
                  if 0 ≤ (lg_cmp q11.1 (-99999 : Int64)) then
                    some (nI 0, q11.2)
                  else
                    some (nI 1, q11.2)
          else
            (jm_isCall F x1 q3.2).bind fun q6 =>
              if q6.1 = 0 then
                jm_isTrapped_b67 F y4 q6.2
              else
                if (q6.2.1 21) = (nI 8) then
                  some (nI 1, q6.2)
                else
                  jm_isTrapped_b67 F y4 q6.2
    else
      some (nI 1, q1.2)
noncomputable def jm_runs_b42 (F : Nat) (r6 : Int32 × Int32 × Int32 × jm_S → Option (jm_S)) (x1 : Int32) (x2 : Int32) (x3 : Int32) (k0 : Int64) (k1 : Int32) (S : jm_S) : Option (jm_S) :=
  jx_ga k1 40 fun j1 => jx_nx (jm_setL S 33 (vp_updL (S.2.2 33) j1 k0)) fun S2 =>
    jx_nx (x3 + nI 1) fun y3 =>
      r6 (x1, x2, y3, S2)
noncomputable def jm_runs_b242 (F : Nat) (r53 : Int32 × Int32 × jm_S → Option (jm_S)) (x1 : Int32) (x2 : Int32) (x3 : Int32) (S : jm_S) : Option (jm_S) :=
  jx_ga (S.1 24) 300 fun j1 => jx_nx (jm_setA S 22 (upd (S.2.1 22) j1 x3)) fun S2 =>
    jx_nx (jm_setI S2 24 ((S2.1 24) + (nI 1))) fun S3 =>
      (jm_does F x3 S3).bind fun q4 =>
        jx_nx (jm_setI q4.2 27 q4.1) fun S5 =>
          (jm_wordOf F x3 S5).bind fun q6 =>
            if q6.1 = (nI 9) then
              jx_nx (jm_setI q6.2 26 (nI 0)) fun S8 =>
                some S8
            else
              r53 (x1, x2, q6.2)
noncomputable def jm_runs_b238 (F : Nat) (r53 : Int32 × Int32 × jm_S → Option (jm_S)) (x1 : Int32) (x2 : Int32) (x3 : Int32) (k0 : Int32) (k1 : Int32) (S : jm_S) : Option (jm_S) :=
  jx_nx (jm_setI S 28 (k1 + k0)) fun S1 =>
    jm_runs_b242 F r53 x1 x2 x3 S1
noncomputable def jm_runs_b207 (F : Nat) (r53 : Int32 × Int32 × jm_S → Option (jm_S)) (x1 : Int32) (x2 : Int32) (x3 : Int32) (S : jm_S) : Option (jm_S) :=
  (jm_of F x3 (nI 2) S).bind fun q1 =>
    if q1.1 = 0 then
      jm_runs_b238 F r53 x1 x2 x3 (nI 0) (S.1 28) q1.2
    else
      (jm_of F x3 (nI 2) q1.2).bind fun q3 =>
        jx_ga ((nI 4) + q3.1) 412 fun j4 =>
          jm_runs_b238 F r53 x1 x2 x3 (q3.2.2.1 1 j4) (S.1 28) q3.2
noncomputable def jm_runs_b177 (F : Nat) (r53 : Int32 × Int32 × jm_S → Option (jm_S)) (x1 : Int32) (x2 : Int32) (x3 : Int32) (x4 : Int32) (S : jm_S) : Option (jm_S) :=
  jx_nx (jm_setI S 29 ((S.1 29) + (nI 1))) fun S1 =>
    if x4 = 0 then
      jm_runs_b207 F r53 x1 x2 x3 S1
    else
      if (S1.1 32) = 0 then
        jx_nx (jm_setI S1 32 (S1.1 29)) fun S4 =>
          jm_runs_b207 F r53 x1 x2 x3 S4
      else
        jm_runs_b207 F r53 x1 x2 x3 S1
noncomputable def jm_runs_b61 (F : Nat) (r53 : Int32 × Int32 × jm_S → Option (jm_S)) (x1 : Int32) (x2 : Int32) (S : jm_S) : Option (jm_S) :=
  if (S.1 24) = (nI 300) then
    jx_nx (jm_setI S 26 (nI 2)) fun S22 =>
      some S22
  else
    (jm_isTrapped F (S.1 27) S).bind fun q2 =>
      if q2.1 = 0 then
        jx_nx (q2.2.1 27) fun y4 =>
          (jm_isJump F y4 q2.2).bind fun q5 =>
            if q5.1 = 0 then
              jm_runs_b242 F r53 x1 x2 y4 q5.2
            else
              (jm_isGuarded F y4 q5.2).bind fun q7 =>
                jx_nx (q7.1) fun y8 =>
                  if y8 = 0 then
                    jm_runs_b177 F r53 x1 x2 y4 y8 q7.2
                  else
                    if x2 = 0 then
                      jm_runs_b177 F r53 x1 x2 y4 y8 q7.2
                    else
                      jx_nx (jm_setI q7.2 26 (nI 1)) fun S11 =>
                        (jm_landingOf F y4 S11).bind fun q12 =>
                          jx_nx (jm_setI q12.2 31 q12.1) fun S13 =>
                            (jm_wordOf F y4 S13).bind fun q14 =>
                              if q14.1 = (nI 7) then
                                jx_ga ((q14.2.1 21) - (nI 1)) 8 fun j19 =>
                                  jx_nx (jm_setI q14.2 30 (q14.2.2.1 19 j19)) fun S20 =>
                                    some S20
                              else
                                (jm_of F y4 (nI 5) q14.2).bind fun q16 =>
                                  jx_ga q16.1 16 fun j17 =>
                                    jx_nx (jm_setI q16.2 30 (q16.2.2.1 17 j17)) fun S18 =>
                                      some S18
      else
        jx_nx (jm_setI q2.2 26 (nI 3)) fun S21 =>
          some S21
noncomputable def jm_runs_L53 (F : Nat) (r53 : Int32 × Int32 × jm_S → Option (jm_S)) (x1 : Int32) (x2 : Int32) (S : jm_S) : Option (jm_S) :=
  if x1 = 0 then
    jm_runs_b61 F r53 x1 x2 S
  else
    (jm_bendsNow F  S).bind fun q2 =>
      jm_runs_b61 F r53 x1 x2 q2
noncomputable def jm_runs_h53 (F : Nat) : Nat → Int32 × Int32 × jm_S → Option (jm_S) := jx_loop fun r (a : Int32 × Int32 × jm_S) => jm_runs_L53 F r a.1 a.2.1 a.2.2
noncomputable def jm_runs_L6 (F : Nat) (r6 : Int32 × Int32 × Int32 × jm_S → Option (jm_S)) (x1 : Int32) (x2 : Int32) (x3 : Int32) (S : jm_S) : Option (jm_S) :=
  (jm_orders F  S).bind fun q1 =>
    if q1.1 ≤ x3 then
      (jm_begins F  q1.2).bind fun q3 =>
        jm_runs_h53 F F (x1, x2, q3)
    else
      (jm_isJump F x3 q1.2).bind fun q4 =>
        if q4.1 = 0 then
          jm_runs_b42 F r6 x1 x2 x3 (lN 0) x3 q4.2
        else
          (jm_of F x3 (nI 2) q4.2).bind fun q6 =>
            (jm_letsBy F x3 q6.1 q6.2).bind fun q7 =>
              jm_runs_b42 F r6 x1 x2 x3 q7.1 x3 q7.2
noncomputable def jm_runs_h6 (F : Nat) : Nat → Int32 × Int32 × Int32 × jm_S → Option (jm_S) := jx_loop fun r (a : Int32 × Int32 × Int32 × jm_S) => jm_runs_L6 F r a.1 a.2.1 a.2.2.1 a.2.2.2
noncomputable def jm_runs (F : Nat) (x1 : Int32) (x2 : Int32) (S : jm_S) : Option (jm_S) :=
  (jm_flows F  S).bind fun q1 =>
    jx_nx (nI 0) fun y2 =>
      jm_runs_h6 F F (x1, x2, y2, q1)
noncomputable def jm_run_b21 (F : Nat) (x1 : Int32) (x2 : Int32) (k0 : Int32) (S : jm_S) : Option (Int32 × jm_S) :=
  (jm_throwsIf F k0 (nI 1) S).bind fun q1 =>
    if q1.1 = 0 then
      (jm_runs F x1 (nI 1) q1.2).bind fun q3 =>
        if x2 = nI 0 then
          some (q3.1 26, q3)
        else
          if x2 = nI 1 then
            some (q3.1 24, q3)
          else
            if x2 = nI 2 then
              some (q3.1 28, q3)
            else
              if x2 = nI 3 then
                some (q3.1 27, q3)
              else
                if x2 = nI 4 then
                  some (q3.1 25, q3)
                else
                  if x2 = nI 5 then
                    some (q3.1 29, q3)
                  else
                    if x2 = nI 6 then
                      some (q3.1 30, q3)
                    else
                      some (q3.1 31, q3)
    else
      some (nI 0, q1.2)
noncomputable def jm_run (F : Nat) (x1 : Int32) (x2 : Int32) (S : jm_S) : Option (Int32 × jm_S) :=
  jx_nx (jm_setI S 0 (nI 0)) fun S1 =>
    (jm_in x2 (nI 0) (nI 7)).bind fun q2 =>
      if q2 = 0 then
        jm_run_b21 F x1 x2 (nI 1) S1
      else
        jm_run_b21 F x1 x2 (nI 0) S1
noncomputable def jm_step (F : Nat) (x1 : Int32) (x2 : Int32) (S : jm_S) : Option (Int32 × jm_S) :=
  jx_nx (jm_setI S 0 (nI 0)) fun S1 =>
    (jm_runs F x1 (nI 1) S1).bind fun q2 =>
      (jm_in x2 (nI 0) ((q2.1 24) - (nI 1))).bind fun q3 =>
        if q3 = 0 then
          some ((-1 : Int32), q2)
        else
          jx_ga x2 300 fun j5 =>
            some (q2.2.1 22 j5, q2)
noncomputable def jm_said (F : Nat) (x1 : Int32) (x2 : Int32) (S : jm_S) : Option (Int32 × jm_S) :=
  jx_nx (jm_setI S 0 (nI 0)) fun S1 =>
    (jm_runs F x1 (nI 1) S1).bind fun q2 =>
      (jm_in x2 (nI 0) ((q2.1 25) - (nI 1))).bind fun q3 =>
        if q3 = 0 then
          some ((1000000 : Int32), q2)
        else
          jx_ga x2 300 fun j5 =>
            some (q2.2.1 23 j5, q2)
noncomputable def jm_cell (F : Nat) (x1 : Int32) (x2 : Int32) (S : jm_S) : Option (Int32 × jm_S) :=
  jx_nx (jm_setI S 0 (nI 0)) fun S1 =>
    (jm_noCell x2).bind fun q2 =>
      (jm_throwsIf F q2 (nI 1) S1).bind fun q3 =>
        if q3.1 = 0 then
          (jm_runs F x1 (nI 1) q3.2).bind fun q5 =>
            jx_ga x2 16 fun j6 =>
              some (q5.2.1 16 j6, q5)
        else
          some (nI 0, q3.2)
noncomputable def jm_power_b97 (F : Nat) (x3 : Int32) (k0 : Int32) (k1 : Int32) (S : jm_S) : Option (Int32 × jm_S) :=
  jx_ga k1 412 fun j1 => jx_nx (jm_setA S 1 (upd (S.2.1 1) j1 k0)) fun S2 =>
    jx_ga (nI 2) 412 fun j3 =>
      jx_ga (nI 2) 412 fun j4 => jx_nx (jm_setA S2 1 (upd (S2.2.1 1) j4 ((S2.2.1 1 j3) + (nI 1)))) fun S5 =>
        some (x3, S5)
noncomputable def jm_power_b46 (F : Nat) (x1 : Int32) (x2 : Int32) (k0 : Int32) (S : jm_S) : Option (Int32 × jm_S) :=
  (jm_throwsIf F k0 (nI 2) S).bind fun q1 =>
    if q1.1 = 0 then
      jx_ga (nI 2) 412 fun j3 =>
        jx_nx (q1.2.2.1 1 j3) fun y4 =>
          jx_ga ((nI 392) + ((nI 2) * y4)) 412 fun j5 => jx_nx (jm_setA q1.2 1 (upd (q1.2.2.1 1) j5 x1)) fun S6 =>
            if x2 = 0 then
              jm_power_b97 F y4 (nI 0) (((nI 392) + ((nI 2) * y4)) + (nI 1)) S6
            else
              jm_power_b97 F y4 (nI 1) (((nI 392) + ((nI 2) * y4)) + (nI 1)) S6
    else
      some (nI 0, q1.2)
noncomputable def jm_power_b22 (F : Nat) (x1 : Int32) (x2 : Int32) (k0 : Int32) (S : jm_S) : Option (Int32 × jm_S) :=
  (jm_throwsIf F k0 (nI 1) S).bind fun q1 =>
    if q1.1 = 0 then
      jx_ga (nI 2) 412 fun j3 =>
        if (q1.2.2.1 1 j3) = (nI 6) then
          jm_power_b46 F x1 x2 (nI 1) q1.2
        else
          jm_power_b46 F x1 x2 (nI 0) q1.2
    else
      some (nI 0, q1.2)
noncomputable def jm_power (F : Nat) (x1 : Int32) (x2 : Int32) (S : jm_S) : Option (Int32 × jm_S) :=
  jx_nx (jm_setI S 0 (nI 0)) fun S1 =>
    (jm_in x1 (nI 0) (65535 : Int32)).bind fun q2 =>
      if q2 = 0 then
        jm_power_b22 F x1 x2 (nI 1) S1
      else
        jm_power_b22 F x1 x2 (nI 0) S1
noncomputable def jm_harm_b46 (F : Nat) (x1 : Int32) (k0 : Int32) (S : jm_S) : Option (Int32 × jm_S) :=
  (jm_throwsIf F k0 (nI 2) S).bind fun q1 =>
    if q1.1 = 0 then
      jx_ga (nI 3) 412 fun j3 =>
        jx_ga ((nI 404) + (q1.2.2.1 1 j3)) 412 fun j4 => jx_nx (jm_setA q1.2 1 (upd (q1.2.2.1 1) j4 x1)) fun S5 =>
          jx_ga (nI 3) 412 fun j6 =>
            jx_ga (nI 3) 412 fun j7 => jx_nx (jm_setA S5 1 (upd (S5.2.1 1) j7 ((S5.2.1 1 j6) + (nI 1)))) fun S8 =>
              jx_ga (nI 3) 412 fun j9 =>
                some ((S8.2.1 1 j9) - (nI 1), S8)
    else
      some (nI 0, q1.2)
noncomputable def jm_harm_b22 (F : Nat) (x1 : Int32) (k0 : Int32) (S : jm_S) : Option (Int32 × jm_S) :=
  (jm_throwsIf F k0 (nI 1) S).bind fun q1 =>
    if q1.1 = 0 then
      jx_ga (nI 3) 412 fun j3 =>
        if (q1.2.2.1 1 j3) = (nI 8) then
          jm_harm_b46 F x1 (nI 1) q1.2
        else
          jm_harm_b46 F x1 (nI 0) q1.2
    else
      some (nI 0, q1.2)
noncomputable def jm_harm (F : Nat) (x1 : Int32) (S : jm_S) : Option (Int32 × jm_S) :=
  jx_nx (jm_setI S 0 (nI 0)) fun S1 =>
    (jm_in x1 (nI 0) (nI 999)).bind fun q2 =>
      if q2 = 0 then
        jm_harm_b22 F x1 (nI 1) S1
      else
        jm_harm_b22 F x1 (nI 0) S1
noncomputable def jm_closedSet_b56 (F : Nat) (r15 : Int64 × Int32 × jm_S → Option (Int64 × jm_S)) (r26 : Int64 × Int32 × Int32 × jm_S → Option (Int64 × jm_S)) (x3 : Int32) (x4 : Int32) (k0 : Int64) (k1 : Int64) (S : jm_S) : Option (Int64 × jm_S) :=
  jx_nx (k1 ||| k0) fun y1 =>
    jx_nx (x4 + nI 1) fun y2 =>
      r26 (y1, x3, y2, S)
noncomputable def jm_closedSet_L26 (F : Nat) (r15 : Int64 × Int32 × jm_S → Option (Int64 × jm_S)) (r26 : Int64 × Int32 × Int32 × jm_S → Option (Int64 × jm_S)) (x1 : Int64) (x3 : Int32) (x4 : Int32) (S : jm_S) : Option (Int64 × jm_S) :=
  (jm_orders F  S).bind fun q1 =>
    if q1.1 ≤ x4 then
      jx_nx (x3 + nI 1) fun y3 =>
        r15 (x1, y3, q1.2)
    else
      (jm_has x1 x4).bind fun q4 =>
        if q4 = 0 then
          jm_closedSet_b56 F r15 r26 x3 x4 (lN 0) x1 q1.2
        else
          jx_ga x4 40 fun j6 =>
            jm_closedSet_b56 F r15 r26 x3 x4 (q1.2.2.2 35 j6) x1 q1.2
noncomputable def jm_closedSet_h26 (F : Nat) (r15 : Int64 × Int32 × jm_S → Option (Int64 × jm_S)) : Nat → Int64 × Int32 × Int32 × jm_S → Option (Int64 × jm_S) := jx_loop fun r (a : Int64 × Int32 × Int32 × jm_S) => jm_closedSet_L26 F r15 r a.1 a.2.1 a.2.2.1 a.2.2.2
noncomputable def jm_closedSet_L15 (F : Nat) (r15 : Int64 × Int32 × jm_S → Option (Int64 × jm_S)) (x1 : Int64) (x3 : Int32) (S : jm_S) : Option (Int64 × jm_S) :=
  (jm_orders F  S).bind fun q1 =>
    if q1.1 ≤ x3 then
      some (x1, q1.2)
    else
      jx_nx (nI 0) fun y3 =>
        jm_closedSet_h26 F r15 F (x1, x3, y3, q1.2)
noncomputable def jm_closedSet_h15 (F : Nat) : Nat → Int64 × Int32 × jm_S → Option (Int64 × jm_S) := jx_loop fun r (a : Int64 × Int32 × jm_S) => jm_closedSet_L15 F r a.1 a.2.1 a.2.2
noncomputable def jm_closedSet_b12 (F : Nat) (k0 : Int64) (S : jm_S) : Option (Int64 × jm_S) :=
  jx_nx (nI 0) fun y1 =>
    jm_closedSet_h15 F F (k0, y1, S)
noncomputable def jm_closedSet (F : Nat)  (S : jm_S) : Option (Int64 × jm_S) :=
  (jm_orders F  S).bind fun q1 =>
    if q1.1 = 0 then
      jm_closedSet_b12 F (lN 0) q1.2
    else
      jm_closedSet_b12 F (lN 1) q1.2
noncomputable def jm_gradesNow_L2 (F : Nat) (r2 : Int32 × jm_S → Option (jm_S)) (x1 : Int32) (S : jm_S) : Option (jm_S) :=
  (jm_orders F  S).bind fun q1 =>
    if q1.1 ≤ x1 then
      some q1.2
    else
      (jm_of F x1 (nI 2) q1.2).bind fun q3 =>
        jx_ga x1 40 fun j4 => jx_nx (jm_setA q3.2 34 (upd (q3.2.2.1 34) j4 q3.1)) fun S5 =>
          jx_nx (x1 + nI 1) fun y6 =>
            r2 (y6, S5)
noncomputable def jm_gradesNow_h2 (F : Nat) : Nat → Int32 × jm_S → Option (jm_S) := jx_loop fun r (a : Int32 × jm_S) => jm_gradesNow_L2 F r a.1 a.2
noncomputable def jm_gradesNow (F : Nat)  (S : jm_S) : Option (jm_S) :=
  jx_nx (nI 0) fun y1 =>
    jm_gradesNow_h2 F F (y1, S)
noncomputable def jm_noPower (F : Nat) (x1 : Int32) (S : jm_S) : Option (Int32 × jm_S) :=
  jx_ga (nI 2) 412 fun j1 =>
    (jm_in x1 (nI 0) ((S.2.1 1 j1) - (nI 1))).bind fun q2 =>
      if q2 = 0 then
        some (nI 1, S)
      else
        some (nI 0, S)
noncomputable def jm_bendsCell (F : Nat) (x1 : Int32) (x2 : Int32) (S : jm_S) : Option (Int32 × jm_S) :=
  jx_ga ((nI 392) + ((nI 2) * x1)) 412 fun j1 =>
    if (((S.2.1 1 j1) >>> (x2 &&& 31)) &&& (nI 1)) = (nI 1) then
      some (nI 1, S)
    else
      some (nI 0, S)
noncomputable def jm_bendsRow (F : Nat) (x1 : Int32) (S : jm_S) : Option (Int32 × jm_S) :=
  jx_ga (((nI 392) + ((nI 2) * x1)) + (nI 1)) 412 fun j1 =>
    if (S.2.1 1 j1) = (nI 1) then
      some (nI 1, S)
    else
      some (nI 0, S)
noncomputable def jm_mayFrom_b93 (F : Nat) (x1 : Int32) (x4 : Int64) (x6 : Int64) (k0 : Int32) (S : jm_S) : Option (Int64 × jm_S) :=
  if k0 = 0 then
    some (x4 ||| x6, S)
  else
    (jm_isSo F x1 S).bind fun q2 =>
      if q2.1 = 0 then
        some (x4, q2.2)
      else
        some (x6, q2.2)
noncomputable def jm_mayFrom_b92 (F : Nat) (x1 : Int32) (x4 : Int64) (x6 : Int64) (S : jm_S) : Option (Int64 × jm_S) :=
  jm_mayFrom_b93 F x1 x4 x6 (nI 0) S
noncomputable def jm_mayFrom_b177 (F : Nat) (x8 : Int64) (S : jm_S) : Option (Int64 × jm_S) :=
  (jm_behind F  S).bind fun q1 =>
    some (q1.1 &&& x8, q1.2)
noncomputable def jm_mayFrom_b34 (F : Nat) (x1 : Int32) (x2 : Int32) (x3 : Int32) (x4 : Int64) (k0 : Int64) (S : jm_S) : Option (Int64 × jm_S) :=
  if x3 = (nI 9) then
    some (lN 0, S)
  else
    if x3 = (nI 2) then
      some (k0, S)
    else
      if x3 = (nI 5) then
        some (k0, S)
      else
        if x3 = (nI 3) then
          (jm_of F x1 (nI 6) S).bind fun q22 =>
            if (nI 1000) ≤ q22.1 then
              jm_mayFrom_b92 F x1 x4 k0 q22.2
            else
              (jm_of F x1 (nI 7) q22.2).bind fun q24 =>
                if (nI 1000) ≤ q24.1 then
                  jm_mayFrom_b92 F x1 x4 k0 q24.2
                else
                  jm_mayFrom_b93 F x1 x4 k0 (nI 1) q24.2
        else
          (jm_isJump F x1 S).bind fun q5 =>
            if q5.1 = 0 then
              some (x4, q5.2)
            else
              jx_ga x1 40 fun j7 =>
                (jm_letsBy F x1 (q5.2.2.1 34 j7) q5.2).bind fun q8 =>
                  jx_nx (q8.1) fun y9 =>
                    if x3 = (nI 7) then
                      (jm_bendsRow F x2 q8.2).bind fun q18 =>
                        if q18.1 = 0 then
                          jm_mayFrom_b177 F y9 q18.2
                        else
                          jx_ga x1 40 fun j20 =>
                            if (nI 3) ≤ (q18.2.2.1 34 j20) then
                              jm_mayFrom_b177 F y9 q18.2
                            else
                              some (y9, q18.2)
                    else
                      (jm_of F x1 (nI 5) q8.2).bind fun q11 =>
                        jx_nx (q11.1) fun y12 =>
                          (jm_bendsCell F x2 y12 q11.2).bind fun q13 =>
                            if q13.1 = 0 then
                              jx_ga y12 16 fun j15 =>
                                if (q13.2.2.1 13 j15) = 0 then
                                  jx_ga y12 16 fun j17 =>
                                    some ((q13.2.2.2 12 j17) &&& y9, q13.2)
                                else
                                  some (y9, q13.2)
                            else
                              some (y9, q13.2)
noncomputable def jm_mayFrom (F : Nat) (x1 : Int32) (x2 : Int32) (S : jm_S) : Option (Int64 × jm_S) :=
  (jm_wordOf F x1 S).bind fun q1 =>
    jx_nx (q1.1) fun y2 =>
      jx_nx ((lN 1) <<< ((x1 + (nI 1)).toInt64 &&& 63)) fun y3 =>
        (jm_of F x1 (nI 4) q1.2).bind fun q4 =>
          if 0 ≤ q4.1 then
            (jm_of F x1 (nI 4) q4.2).bind fun q6 =>
              jm_mayFrom_b34 F x1 x2 y2 y3 ((lN 1) <<< (q6.1.toInt64 &&& 63)) q6.2
          else
            jm_mayFrom_b34 F x1 x2 y2 y3 (lN 0) q4.2
noncomputable def jm_ways_L2 (F : Nat) (r2 : Int32 × Int32 × jm_S → Option (jm_S)) (x1 : Int32) (x2 : Int32) (S : jm_S) : Option (jm_S) :=
  (jm_orders F  S).bind fun q1 =>
    if q1.1 ≤ x2 then
      some q1.2
    else
      (jm_mayFrom F x2 x1 q1.2).bind fun q3 =>
        (jm_all F  q3.2).bind fun q4 =>
          jx_ga x2 40 fun j5 => jx_nx (jm_setL q4.2 35 (vp_updL (q4.2.2.2 35) j5 (q3.1 &&& q4.1))) fun S6 =>
            jx_nx (x2 + nI 1) fun y7 =>
              r2 (x1, y7, S6)
noncomputable def jm_ways_h2 (F : Nat) : Nat → Int32 × Int32 × jm_S → Option (jm_S) := jx_loop fun r (a : Int32 × Int32 × jm_S) => jm_ways_L2 F r a.1 a.2.1 a.2.2
noncomputable def jm_ways (F : Nat) (x1 : Int32) (S : jm_S) : Option (jm_S) :=
  jx_nx (nI 0) fun y1 =>
    jm_ways_h2 F F (x1, y1, S)
noncomputable def jm_closed (F : Nat) (x1 : Int32) (S : jm_S) : Option (Int64 × jm_S) :=
  jx_nx (jm_setI S 0 (nI 0)) fun S1 =>
    (jm_noPower F x1 S1).bind fun q2 =>
      (jm_throwsIf F q2.1 (nI 1) q2.2).bind fun q3 =>
        if q3.1 = 0 then
          (jm_flows F  q3.2).bind fun q5 =>
            (jm_gradesNow F  q5).bind fun q6 =>
              (jm_ways F x1 q6).bind fun q7 =>
                (jm_closedSet F  q7).bind fun q8 =>
                  some (q8.1, q8.2)
        else
          some (lN 0, q3.2)
noncomputable def jm_noHarm (F : Nat) (x1 : Int32) (S : jm_S) : Option (Int32 × jm_S) :=
  jx_ga (nI 3) 412 fun j1 =>
    (jm_in x1 (nI 0) ((S.2.1 1 j1) - (nI 1))).bind fun q2 =>
      if q2 = 0 then
        some (nI 1, S)
      else
        some (nI 0, S)
noncomputable def jm_doorsOf_b67 (F : Nat) (r5 : Int32 × Int64 × Int32 × jm_S → Option (Int64 × jm_S)) (x1 : Int32) (x2 : Int64) (x4 : Int32) (S : jm_S) : Option (Int64 × jm_S) :=
  jx_nx (x4 + nI 1) fun y1 =>
    r5 (x1, x2, y1, S)
noncomputable def jm_doorsOf_b60 (F : Nat) (r5 : Int32 × Int64 × Int32 × jm_S → Option (Int64 × jm_S)) (x1 : Int32) (x2 : Int64) (x4 : Int32) (S : jm_S) : Option (Int64 × jm_S) :=
  jx_nx (x2 ||| ((lN 1) <<< (x4.toInt64 &&& 63))) fun y1 =>
    jm_doorsOf_b67 F r5 x1 y1 x4 S
noncomputable def jm_doorsOf_L5 (F : Nat) (r5 : Int32 × Int64 × Int32 × jm_S → Option (Int64 × jm_S)) (x1 : Int32) (x2 : Int64) (x4 : Int32) (S : jm_S) : Option (Int64 × jm_S) :=
  (jm_orders F  S).bind fun q1 =>
    if q1.1 ≤ x4 then
      some (x2, q1.2)
    else
      (jm_wordOf F x4 q1.2).bind fun q3 =>
        if q3.1 = (nI 8) then
          (jm_of F x4 (nI 6) q3.2).bind fun q5 =>
            if (nI 1000) ≤ q5.1 then
              jm_doorsOf_b60 F r5 x1 x2 x4 q5.2
            else
              (jm_of F x4 (nI 6) q5.2).bind fun q7 =>
                jx_ga ((nI 404) + x1) 412 fun j8 =>
                  if q7.1 = (q7.2.2.1 1 j8) then
                    jm_doorsOf_b60 F r5 x1 x2 x4 q7.2
                  else
                    jm_doorsOf_b67 F r5 x1 x2 x4 q7.2
        else
          jm_doorsOf_b67 F r5 x1 x2 x4 q3.2
noncomputable def jm_doorsOf_h5 (F : Nat) : Nat → Int32 × Int64 × Int32 × jm_S → Option (Int64 × jm_S) := jx_loop fun r (a : Int32 × Int64 × Int32 × jm_S) => jm_doorsOf_L5 F r a.1 a.2.1 a.2.2.1 a.2.2.2
noncomputable def jm_doorsOf (F : Nat) (x1 : Int32) (S : jm_S) : Option (Int64 × jm_S) :=
  jx_nx (lN 0) fun y1 =>
    jx_nx (nI 0) fun y2 =>
      jm_doorsOf_h5 F F (x1, y1, y2, S)
noncomputable def jm_finds_b51 (F : Nat) (r22 : Int64 × Int32 × jm_S → Option (jm_S)) (x3 : Int64) (x5 : Int32) (k0 : Int32) (k1 : Int32) (S : jm_S) : Option (jm_S) :=
  jx_ga k1 40 fun j1 => jx_nx (jm_setA S 37 (upd (S.2.1 37) j1 k0)) fun S2 =>
    jx_nx (x5 + nI 1) fun y3 =>
      r22 (x3, y3, S2)
noncomputable def jm_finds_b145 (F : Nat) (r61 : Int32 × jm_S → Option (jm_S)) (r73 : Int32 × Int32 × jm_S → Option (jm_S)) (r98 : Int32 × Int32 × Int32 × jm_S → Option (jm_S)) (x5 : Int32) (x6 : Int32) (x7 : Int32) (S : jm_S) : Option (jm_S) :=
  jx_nx (x7 + nI 1) fun y1 =>
    r98 (x5, x6, y1, S)
noncomputable def jm_finds_b151 (F : Nat) (r61 : Int32 × jm_S → Option (jm_S)) (r73 : Int32 × Int32 × jm_S → Option (jm_S)) (x5 : Int32) (x6 : Int32) (S : jm_S) : Option (jm_S) :=
  jx_nx (x6 + nI 1) fun y1 =>
    r73 (x5, y1, S)
noncomputable def jm_finds_L98 (F : Nat) (r61 : Int32 × jm_S → Option (jm_S)) (r73 : Int32 × Int32 × jm_S → Option (jm_S)) (r98 : Int32 × Int32 × Int32 × jm_S → Option (jm_S)) (x5 : Int32) (x6 : Int32) (x7 : Int32) (S : jm_S) : Option (jm_S) :=
  (jm_orders F  S).bind fun q1 =>
    if q1.1 ≤ x7 then
      jm_finds_b151 F r61 r73 x5 x6 q1.2
    else
      jx_ga x6 40 fun j3 =>
        (jm_has (q1.2.2.2 35 j3) x7).bind fun q4 =>
          if q4 = 0 then
            jm_finds_b145 F r61 r73 r98 x5 x6 x7 q1.2
          else
            jx_ga x7 40 fun j6 =>
              if (q1.2.2.1 37 j6) = (x5 - (nI 1)) then
                jx_ga x6 40 fun j8 => jx_nx (jm_setA q1.2 37 (upd (q1.2.2.1 37) j8 x5)) fun S9 =>
                  jm_finds_b145 F r61 r73 r98 x5 x6 x7 S9
              else
                jm_finds_b145 F r61 r73 r98 x5 x6 x7 q1.2
noncomputable def jm_finds_h98 (F : Nat) (r61 : Int32 × jm_S → Option (jm_S)) (r73 : Int32 × Int32 × jm_S → Option (jm_S)) : Nat → Int32 × Int32 × Int32 × jm_S → Option (jm_S) := jx_loop fun r (a : Int32 × Int32 × Int32 × jm_S) => jm_finds_L98 F r61 r73 r a.1 a.2.1 a.2.2.1 a.2.2.2
noncomputable def jm_finds_L73 (F : Nat) (r61 : Int32 × jm_S → Option (jm_S)) (r73 : Int32 × Int32 × jm_S → Option (jm_S)) (x5 : Int32) (x6 : Int32) (S : jm_S) : Option (jm_S) :=
  (jm_orders F  S).bind fun q1 =>
    if q1.1 ≤ x6 then
      jx_nx (x5 + nI 1) fun y3 =>
        r61 (y3, q1.2)
    else
      jx_ga x6 40 fun j4 =>
        if (q1.2.2.1 37 j4) < 0 then
          jx_nx (nI 0) fun y6 =>
            jm_finds_h98 F r61 r73 F (x5, x6, y6, q1.2)
        else
          jm_finds_b151 F r61 r73 x5 x6 q1.2
noncomputable def jm_finds_h73 (F : Nat) (r61 : Int32 × jm_S → Option (jm_S)) : Nat → Int32 × Int32 × jm_S → Option (jm_S) := jx_loop fun r (a : Int32 × Int32 × jm_S) => jm_finds_L73 F r61 r a.1 a.2.1 a.2.2
noncomputable def jm_finds_b247 (F : Nat) (r200 : Int32 × jm_S → Option (jm_S)) (r213 : Int32 × Int32 × jm_S → Option (jm_S)) (x5 : Int32) (x6 : Int32) (S : jm_S) : Option (jm_S) :=
  jx_nx (x6 + nI 1) fun y1 =>
    r213 (x5, y1, S)
noncomputable def jm_finds_L213 (F : Nat) (r200 : Int32 × jm_S → Option (jm_S)) (r213 : Int32 × Int32 × jm_S → Option (jm_S)) (x5 : Int32) (x6 : Int32) (S : jm_S) : Option (jm_S) :=
  jx_ga x5 40 fun j1 =>
    (jm_has (S.2.2 35 j1) x6).bind fun q2 =>
      if q2 = 0 then
        jm_finds_b247 F r200 r213 x5 x6 S
      else
        jx_ga x6 40 fun j4 =>
          jx_ga x5 40 fun j5 =>
            if (S.2.1 37 j4) = ((S.2.1 37 j5) - (nI 1)) then
              jx_ga (S.1 38) 40 fun j7 => jx_nx (jm_setA S 36 (upd (S.2.1 36) j7 x6)) fun S8 =>
                jx_nx (jm_setI S8 38 ((S8.1 38) + (nI 1))) fun S9 =>
                  r200 (x6, S9)
            else
              jm_finds_b247 F r200 r213 x5 x6 S
noncomputable def jm_finds_h213 (F : Nat) (r200 : Int32 × jm_S → Option (jm_S)) : Nat → Int32 × Int32 × jm_S → Option (jm_S) := jx_loop fun r (a : Int32 × Int32 × jm_S) => jm_finds_L213 F r200 r a.1 a.2.1 a.2.2
noncomputable def jm_finds_L200 (F : Nat) (r200 : Int32 × jm_S → Option (jm_S)) (x5 : Int32) (S : jm_S) : Option (jm_S) :=
  jx_ga x5 40 fun j1 =>
    if (S.2.1 37 j1) ≤ 0 then
      some S
    else
      jx_nx (nI 0) fun y3 =>
        jm_finds_h213 F r200 F (x5, y3, S)
noncomputable def jm_finds_h200 (F : Nat) : Nat → Int32 × jm_S → Option (jm_S) := jx_loop fun r (a : Int32 × jm_S) => jm_finds_L200 F r a.1 a.2
noncomputable def jm_finds_L61 (F : Nat) (r61 : Int32 × jm_S → Option (jm_S)) (x5 : Int32) (S : jm_S) : Option (jm_S) :=
  (jm_orders F  S).bind fun q1 =>
    if q1.1 < x5 then
      jx_nx (jm_setI q1.2 38 (nI 0)) fun S3 =>
        (jm_orders F  S3).bind fun q4 =>
          if q4.1 = 0 then
            some q4.2
          else
            jx_ga (nI 0) 40 fun j6 =>
              if 0 ≤ (q4.2.2.1 37 j6) then
                jx_nx (nI 0) fun y8 =>
                  jx_ga (nI 0) 40 fun j9 => jx_nx (jm_setA q4.2 36 (upd (q4.2.2.1 36) j9 (nI 0))) fun S10 =>
                    jx_nx (jm_setI S10 38 (nI 1)) fun S11 =>
                      jm_finds_h200 F F (y8, S11)
              else
                some q4.2
    else
      jx_nx (nI 0) fun y12 =>
        jm_finds_h73 F r61 F (x5, y12, q1.2)
noncomputable def jm_finds_h61 (F : Nat) : Nat → Int32 × jm_S → Option (jm_S) := jx_loop fun r (a : Int32 × jm_S) => jm_finds_L61 F r a.1 a.2
noncomputable def jm_finds_L22 (F : Nat) (r22 : Int64 × Int32 × jm_S → Option (jm_S)) (x3 : Int64) (x5 : Int32) (S : jm_S) : Option (jm_S) :=
  (jm_orders F  S).bind fun q1 =>
    if q1.1 ≤ x5 then
      jx_nx (nI 1) fun y3 =>
        jm_finds_h61 F F (y3, q1.2)
    else
      (jm_has x3 x5).bind fun q4 =>
        if q4 = 0 then
          jm_finds_b51 F r22 x3 x5 (-1 : Int32) x5 q1.2
        else
          jm_finds_b51 F r22 x3 x5 (nI 0) x5 q1.2
noncomputable def jm_finds_h22 (F : Nat) : Nat → Int64 × Int32 × jm_S → Option (jm_S) := jx_loop fun r (a : Int64 × Int32 × jm_S) => jm_finds_L22 F r a.1 a.2.1 a.2.2
noncomputable def jm_finds (F : Nat) (x1 : Int32) (x2 : Int32) (S : jm_S) : Option (jm_S) :=
  (jm_flows F  S).bind fun q1 =>
    (jm_gradesNow F  q1).bind fun q2 =>
      (jm_ways F x1 q2).bind fun q3 =>
        (jm_doorsOf F x2 q3).bind fun q4 =>
          jx_nx (q4.1) fun y5 =>
            jx_nx (nI 0) fun y6 =>
              jm_finds_h22 F F (y5, y6, q4.2)
noncomputable def jm_bendsAtom (F : Nat) (x1 : Int32) (x2 : Int32) (S : jm_S) : Option (Int32 × jm_S) :=
  if x2 < (nI 1000) then
    some (nI 0, S)
  else
    (jm_bendsCell F x1 (x2 - (nI 1000)) S).bind fun q2 =>
      if q2.1 = 0 then
        some (nI 0, q2.2)
      else
        some (nI 1, q2.2)
noncomputable def jm_bendsIf_b145 (F : Nat) (x5 : Int32) (x7 : Int32) (k0 : Int32) (k1 : Int32) (S : jm_S) : Option (jm_S) :=
  (jm_of F k1 k0 S).bind fun q1 =>
    jx_ga (q1.1 - (nI 1000)) 16 fun j2 => jx_nx (jm_setA q1.2 16 (upd (q1.2.2.1 16) j2 (x5 + x7))) fun S3 =>
      some S3
noncomputable def jm_bendsIf_b125 (F : Nat) (x2 : Int32) (x4 : Int32) (x5 : Int32) (k0 : Int32) (S : jm_S) : Option (jm_S) :=
  if x4 = 0 then
    jm_bendsIf_b145 F x5 k0 (nI 7) x2 S
  else
    jm_bendsIf_b145 F x5 k0 (nI 6) x2 S
noncomputable def jm_bendsIf_b115 (F : Nat) (x2 : Int32) (x4 : Int32) (x5 : Int32) (k0 : Int32) (S : jm_S) : Option (jm_S) :=
  if k0 = x4 then
    jm_bendsIf_b125 F x2 x4 x5 (-1 : Int32) S
  else
    jm_bendsIf_b125 F x2 x4 x5 (nI 1) S
noncomputable def jm_bendsIf_b59 (F : Nat) (x2 : Int32) (x3 : Int32) (x4 : Int32) (k0 : Int32) (k1 : Int32) (S : jm_S) : Option (jm_S) :=
  (jm_of F k1 k0 S).bind fun q1 =>
    (jm_valueOf F q1.1 q1.2).bind fun q2 =>
      jx_nx (q2.1) fun y3 =>
        (jm_of F x2 (nI 8) q2.2).bind fun q4 =>
          jx_nx (q4.1) fun y5 =>
            if y5 = (nI 61) then
              if x3 = 0 then
                jm_bendsIf_b125 F x2 x4 y3 (nI 1) q4.2
              else
                jm_bendsIf_b125 F x2 x4 y3 (nI 0) q4.2
            else
              if x3 = 0 then
                jm_bendsIf_b125 F x2 x4 y3 (nI 0) q4.2
              else
                if y5 = (nI 60) then
                  jm_bendsIf_b115 F x2 x4 y3 (nI 1) q4.2
                else
                  jm_bendsIf_b115 F x2 x4 y3 (nI 0) q4.2
noncomputable def jm_bendsIf_b44 (F : Nat) (x2 : Int32) (x3 : Int32) (x4 : Int32) (S : jm_S) : Option (jm_S) :=
  if x4 = 0 then
    jm_bendsIf_b59 F x2 x3 x4 (nI 6) x2 S
  else
    jm_bendsIf_b59 F x2 x3 x4 (nI 7) x2 S
noncomputable def jm_bendsIf (F : Nat) (x1 : Int32) (x2 : Int32) (x3 : Int32) (S : jm_S) : Option (jm_S) :=
  (jm_of F x2 (nI 6) S).bind fun q1 =>
    (jm_bendsAtom F x1 q1.1 q1.2).bind fun q2 =>
      jx_nx (q2.1) fun y3 =>
        (jm_isSo F x2 q2.2).bind fun q4 =>
          if q4.1 = x3 then
            some q4.2
          else
            if y3 = 0 then
              (jm_of F x2 (nI 7) q4.2).bind fun q7 =>
                (jm_bendsAtom F x1 q7.1 q7.2).bind fun q8 =>
                  if q8.1 = 0 then
                    some q8.2
                  else
                    jm_bendsIf_b44 F x2 x3 y3 q8.2
            else
              jm_bendsIf_b44 F x2 x3 y3 q4.2
noncomputable def jm_bendsAt_b166 (F : Nat) (x1 : Int32) (x5 : Int32) (x6 : Int32) (S : jm_S) : Option (jm_S) :=
  if x5 = (nI 7) then
    (jm_bendsRow F x1 S).bind fun q2 =>
      if q2.1 = 0 then
        some q2.2
      else
        if (q2.2.1 21) ≤ 0 then
          some q2.2
        else
          jx_ga ((q2.2.1 21) - (nI 1)) 8 fun j5 => jx_nx (jm_setA q2.2 18 (upd (q2.2.2.1 18) j5 x6)) fun S6 =>
            some S6
  else
    some S
noncomputable def jm_bendsAt_b137 (F : Nat) (x1 : Int32) (x4 : Int32) (x5 : Int32) (x6 : Int32) (S : jm_S) : Option (jm_S) :=
  (jm_of F x4 (nI 5) S).bind fun q1 =>
    (jm_bendsCell F x1 q1.1 q1.2).bind fun q2 =>
      if q2.1 = 0 then
        jm_bendsAt_b166 F x1 x5 x6 q2.2
      else
        (jm_of F x4 (nI 5) q2.2).bind fun q4 =>
          jx_ga q4.1 16 fun j5 => jx_nx (jm_setA q4.2 16 (upd (q4.2.2.1 16) j5 x6)) fun S6 =>
            jm_bendsAt_b166 F x1 x5 x6 S6
noncomputable def jm_bendsAt_b124 (F : Nat) (x1 : Int32) (x4 : Int32) (x5 : Int32) (x6 : Int32) (S : jm_S) : Option (jm_S) :=
  if x5 = (nI 4) then
    jm_bendsAt_b137 F x1 x4 x5 x6 S
  else
    if x5 = (nI 6) then
      jm_bendsAt_b137 F x1 x4 x5 x6 S
    else
      jm_bendsAt_b166 F x1 x5 x6 S
noncomputable def jm_bendsAt_b121 (F : Nat) (x1 : Int32) (x4 : Int32) (x5 : Int32) (x6 : Int32) (k0 : Int32) (k1 : Int32) (k2 : Int32) (S : jm_S) : Option (jm_S) :=
  (jm_bendsIf F k2 k1 k0 S).bind fun q1 =>
    jm_bendsAt_b124 F x1 x4 x5 x6 q1
noncomputable def jm_bendsAt (F : Nat) (x1 : Int32) (x2 : Int32) (x3 : Int32) (S : jm_S) : Option (jm_S) :=
  jx_ga x2 40 fun j1 =>
    jx_nx (S.2.1 36 j1) fun y2 =>
      (jm_wordOf F y2 S).bind fun q3 =>
        jx_nx (q3.1) fun y4 =>
          if x2 = ((q3.2.1 38) - (nI 1)) then
            (jm_of F y2 (nI 6) q3.2).bind fun q13 =>
              (jm_bendsAtom F x1 q13.1 q13.2).bind fun q14 =>
                if q14.1 = 0 then
                  some q14.2
                else
                  (jm_of F y2 (nI 6) q14.2).bind fun q16 =>
                    jx_ga ((nI 404) + x3) 412 fun j17 =>
                      jx_ga (q16.1 - (nI 1000)) 16 fun j18 => jx_nx (jm_setA q16.2 16 (upd (q16.2.2.1 16) j18 (q16.2.2.1 1 j17))) fun S19 =>
                        some S19
          else
            jx_ga (x2 + (nI 1)) 40 fun j6 =>
              jx_nx (q3.2.2.1 36 j6) fun y7 =>
                if y4 = (nI 3) then
                  (jm_of F y2 (nI 4) q3.2).bind fun q9 =>
                    if q9.1 = (y2 + (nI 1)) then
                      jm_bendsAt_b124 F x1 y2 y4 y7 q9.2
                    else
                      (jm_of F y2 (nI 4) q9.2).bind fun q11 =>
                        if y7 = q11.1 then
                          jm_bendsAt_b121 F x1 y2 y4 y7 (nI 1) y2 x1 q11.2
                        else
                          jm_bendsAt_b121 F x1 y2 y4 y7 (nI 0) y2 x1 q11.2
                else
                  jm_bendsAt_b124 F x1 y2 y4 y7 q3.2
noncomputable def jm_isTried_b127 (F : Nat) (r6 : Int32 × Int32 × Int32 × jm_S → Option (Int32 × jm_S)) (x1 : Int32) (x2 : Int32) (x3 : Int32) (x4 : Int32) (S : jm_S) : Option (Int32 × jm_S) :=
  (jm_does F x4 S).bind fun q1 =>
    jx_ga (x3 + (nI 1)) 40 fun j2 =>
      if q1.1 = (q1.2.2.1 36 j2) then
        jx_nx (x3 + nI 1) fun y4 =>
          r6 (x1, x2, y4, q1.2)
      else
        some (nI 0, q1.2)
noncomputable def jm_isTried_L6 (F : Nat) (r6 : Int32 × Int32 × Int32 × jm_S → Option (Int32 × jm_S)) (x1 : Int32) (x2 : Int32) (x3 : Int32) (S : jm_S) : Option (Int32 × jm_S) :=
  if (S.1 38) ≤ x3 then
    some (nI 0, S)
  else
    jx_ga x3 40 fun j2 =>
      jx_nx (S.2.1 36 j2) fun y3 =>
        (jm_bendsAt F x1 x3 x2 S).bind fun q4 =>
          (jm_isTrapped F y3 q4).bind fun q5 =>
            if q5.1 = 0 then
              if x3 = ((q5.2.1 38) - (nI 1)) then
                (jm_of F y3 (nI 6) q5.2).bind fun q15 =>
                  (jm_valueOf F q15.1 q15.2).bind fun q16 =>
                    jx_ga ((nI 404) + x2) 412 fun j17 =>
                      if q16.1 = (q16.2.2.1 1 j17) then
                        some (nI 1, q16.2)
                      else
                        some (nI 0, q16.2)
              else
                (jm_wordOf F y3 q5.2).bind fun q8 =>
                  if q8.1 = (nI 7) then
                    (jm_of F y3 (nI 2) q8.2).bind fun q10 =>
                      if q10.1 = (nI 3) then
                        jx_ga ((q10.2.1 21) - (nI 1)) 8 fun j12 =>
                          jx_ga (x3 + (nI 1)) 40 fun j13 =>
                            if (q10.2.2.1 20 j12) = (q10.2.2.1 36 j13) then
                              jm_isTried_b127 F r6 x1 x2 x3 y3 q10.2
                            else
                              some (nI 0, q10.2)
                      else
                        jm_isTried_b127 F r6 x1 x2 x3 y3 q10.2
                  else
                    jm_isTried_b127 F r6 x1 x2 x3 y3 q8.2
            else
              some (nI 0, q5.2)
noncomputable def jm_isTried_h6 (F : Nat) : Nat → Int32 × Int32 × Int32 × jm_S → Option (Int32 × jm_S) := jx_loop fun r (a : Int32 × Int32 × Int32 × jm_S) => jm_isTried_L6 F r a.1 a.2.1 a.2.2.1 a.2.2.2
noncomputable def jm_isTried (F : Nat) (x1 : Int32) (x2 : Int32) (S : jm_S) : Option (Int32 × jm_S) :=
  (jm_begins F  S).bind fun q1 =>
    jx_nx (nI 0) fun y2 =>
      jm_isTried_h6 F F (x1, x2, y2, q1)
noncomputable def jm_reachOf (F : Nat) (x1 : Int32) (x2 : Int32) (S : jm_S) : Option (Int32 × jm_S) :=
  (jm_finds F x1 x2 S).bind fun q1 =>
    if (q1.1 38) = 0 then
      some (nI 0, q1)
    else
      (jm_isTried F x1 x2 q1).bind fun q3 =>
        if q3.1 = 0 then
          some (nI 2, q3.2)
        else
          some (nI 1, q3.2)
noncomputable def jm_reach_b27 (F : Nat) (x1 : Int32) (x2 : Int32) (k0 : Int32) (S : jm_S) : Option (Int32 × jm_S) :=
  (jm_throwsIf F k0 (nI 1) S).bind fun q1 =>
    if q1.1 = 0 then
      (jm_reachOf F x1 x2 q1.2).bind fun q3 =>
        some (q3.1, q3.2)
    else
      some (nI 0, q1.2)
noncomputable def jm_reach_b22 (F : Nat) (x1 : Int32) (x2 : Int32) (S : jm_S) : Option (Int32 × jm_S) :=
  jm_reach_b27 F x1 x2 (nI 1) S
noncomputable def jm_reach (F : Nat) (x1 : Int32) (x2 : Int32) (S : jm_S) : Option (Int32 × jm_S) :=
  jx_nx (jm_setI S 0 (nI 0)) fun S1 =>
    (jm_noPower F x1 S1).bind fun q2 =>
      if q2.1 = 0 then
        (jm_noHarm F x2 q2.2).bind fun q4 =>
          if q4.1 = 0 then
            jm_reach_b27 F x1 x2 (nI 0) q4.2
          else
            jm_reach_b22 F x1 x2 q4.2
      else
        jm_reach_b22 F x1 x2 q2.2
noncomputable def jm_row_b27 (F : Nat) (x1 : Int32) (x2 : Int32) (x3 : Int32) (k0 : Int32) (S : jm_S) : Option (Int32 × jm_S) :=
  (jm_throwsIf F k0 (nI 1) S).bind fun q1 =>
    if q1.1 = 0 then
      (jm_finds F x1 x2 q1.2).bind fun q3 =>
        (jm_in x3 (nI 0) ((q3.1 38) - (nI 1))).bind fun q4 =>
          if q4 = 0 then
            some ((-1 : Int32), q3)
          else
            jx_ga x3 40 fun j6 =>
              some (q3.2.1 36 j6, q3)
    else
      some (nI 0, q1.2)
noncomputable def jm_row_b22 (F : Nat) (x1 : Int32) (x2 : Int32) (x3 : Int32) (S : jm_S) : Option (Int32 × jm_S) :=
  jm_row_b27 F x1 x2 x3 (nI 1) S
noncomputable def jm_row (F : Nat) (x1 : Int32) (x2 : Int32) (x3 : Int32) (S : jm_S) : Option (Int32 × jm_S) :=
  jx_nx (jm_setI S 0 (nI 0)) fun S1 =>
    (jm_noPower F x1 S1).bind fun q2 =>
      if q2.1 = 0 then
        (jm_noHarm F x2 q2.2).bind fun q4 =>
          if q4.1 = 0 then
            jm_row_b27 F x1 x2 x3 (nI 0) q4.2
          else
            jm_row_b22 F x1 x2 x3 q4.2
      else
        jm_row_b22 F x1 x2 x3 q2.2
noncomputable def jm_ticksOf (F : Nat) (x1 : Int32) (S : jm_S) : Option (Int32 × jm_S) :=
  if x1 = 0 then
    some (nI 0, S)
  else
    jx_ga ((nI 4) + x1) 412 fun j2 =>
      some (S.2.1 1 j2, S)
noncomputable def jm_chooses_L50 (F : Nat) (rc : Int32 × Int32 × Int32 × Int64 × jm_S → Option (jm_S)) (r50 : Int32 × Int32 × jm_S → Option (jm_S)) (x1 : Int32) (x6 : Int32) (S : jm_S) : Option (jm_S) :=
  if x1 ≤ x6 then
    some S
  else
    jx_ga x6 6 fun j2 =>
      jx_ga x6 6 fun j3 => jx_nx (jm_setA S 40 (upd (S.2.1 40) j3 (S.2.1 39 j2))) fun S4 =>
        jx_nx (x6 + nI 1) fun y5 =>
          r50 (x1, y5, S4)
noncomputable def jm_chooses_h50 (F : Nat) (rc : Int32 × Int32 × Int32 × Int64 × jm_S → Option (jm_S)) : Nat → Int32 × Int32 × jm_S → Option (jm_S) := jx_loop fun r (a : Int32 × Int32 × jm_S) => jm_chooses_L50 F rc r a.1 a.2.1 a.2.2
noncomputable def jm_chooses_b106 (F : Nat) (rc : Int32 × Int32 × Int32 × Int64 × jm_S → Option (jm_S)) (r88 : Int32 × Int32 × Int32 × Int64 × Int32 × Int32 × jm_S → Option (jm_S)) (x1 : Int32) (x2 : Int32) (x3 : Int32) (x4 : Int64) (x6 : Int32) (x7 : Int32) (k0 : Int32) (k1 : Int32) (S : jm_S) : Option (jm_S) :=
  if k0 < k1 then
    some S
  else
    jx_ga x1 6 fun j2 => jx_nx (jm_setA S 39 (upd (S.2.1 39) j2 x7)) fun S3 =>
      jx_ga x6 40 fun j4 => jx_nx (jm_setA S3 34 (upd (S3.2.1 34) j4 x7)) fun S5 =>
        (jm_ticksOf F x7 S5).bind fun q6 =>
          (rc (x1 + (nI 1), x2 + q6.1, x3, x4, q6.2)).bind fun q7 =>
            jx_nx (x7 + nI 1) fun y8 =>
              r88 (x1, x2, x3, x4, x6, y8, q7)
noncomputable def jm_chooses_L88 (F : Nat) (rc : Int32 × Int32 × Int32 × Int64 × jm_S → Option (jm_S)) (r88 : Int32 × Int32 × Int32 × Int64 × Int32 × Int32 × jm_S → Option (jm_S)) (x1 : Int32) (x2 : Int32) (x3 : Int32) (x4 : Int64) (x6 : Int32) (x7 : Int32) (S : jm_S) : Option (jm_S) :=
  (jm_wordOf F x6 S).bind fun q1 =>
    if q1.1 = (nI 7) then
      jm_chooses_b106 F rc r88 x1 x2 x3 x4 x6 x7 (nI 3) x7 q1.2
    else
      jm_chooses_b106 F rc r88 x1 x2 x3 x4 x6 x7 (nI 2) x7 q1.2
noncomputable def jm_chooses_h88 (F : Nat) (rc : Int32 × Int32 × Int32 × Int64 × jm_S → Option (jm_S)) : Nat → Int32 × Int32 × Int32 × Int64 × Int32 × Int32 × jm_S → Option (jm_S) := jx_loop fun r (a : Int32 × Int32 × Int32 × Int64 × Int32 × Int32 × jm_S) => jm_chooses_L88 F rc r a.1 a.2.1 a.2.2.1 a.2.2.2.1 a.2.2.2.2.1 a.2.2.2.2.2.1 a.2.2.2.2.2.2
noncomputable def jm_chooses_b16 (F : Nat) (rc : Int32 × Int32 × Int32 × Int64 × jm_S → Option (jm_S)) (x1 : Int32) (x2 : Int32) (x3 : Int32) (x4 : Int64) (S : jm_S) : Option (jm_S) :=
  if x1 = (S.1 42) then
    (jm_ways F x3 S).bind fun q5 =>
      (jm_closedSet F  q5).bind fun q6 =>
        if (lg_cmp (q6.1 &&& x4) (lN 0)) = 0 then
          jx_nx (jm_setI q6.2 43 x2) fun S8 =>
            jx_nx (nI 0) fun y9 =>
              jm_chooses_h50 F rc F (x1, y9, S8)
        else
          some q6.2
  else
    jx_ga x1 6 fun j2 =>
      jx_nx (S.2.1 41 j2) fun y3 =>
        jx_nx (nI 0) fun y4 =>
          jm_chooses_h88 F rc F (x1, x2, x3, x4, y3, y4, S)
noncomputable def jm_chooses_B (F : Nat) (rc : Int32 × Int32 × Int32 × Int64 × jm_S → Option (jm_S)) (x1 : Int32) (x2 : Int32) (x3 : Int32) (x4 : Int64) (S : jm_S) : Option (jm_S) :=
  if (S.1 43) < 0 then
    jm_chooses_b16 F rc x1 x2 x3 x4 S
  else
    if x2 < (S.1 43) then
      jm_chooses_b16 F rc x1 x2 x3 x4 S
    else
      some S
noncomputable def jm_chooses (F : Nat) (d : Nat) (x1 : Int32) (x2 : Int32) (x3 : Int32) (x4 : Int64) (S : jm_S) : Option (jm_S) := jx_loop (fun rc (a : Int32 × Int32 × Int32 × Int64 × jm_S) => jm_chooses_B F rc a.1 a.2.1 a.2.2.1 a.2.2.2.1 a.2.2.2.2) d (x1, x2, x3, x4, S)
noncomputable def jm_least_b113 (F : Nat) (r65 : Int32 × Int32 × Int32 × Int32 × jm_S → Option (Int32 × jm_S)) (x1 : Int32) (x2 : Int32) (x3 : Int32) (x4 : Int32) (S : jm_S) : Option (Int32 × jm_S) :=
  jx_nx (x4 + nI 1) fun y1 =>
    r65 (x1, x2, x3, y1, S)
noncomputable def jm_least_L156 (F : Nat) (r156 : Int32 × Int32 × jm_S → Option (Int32 × jm_S)) (x3 : Int32) (x4 : Int32) (S : jm_S) : Option (Int32 × jm_S) :=
  if (S.1 42) ≤ x4 then
    some ((-1 : Int32), S)
  else
    jx_ga x4 6 fun j2 =>
      if (S.2.1 41 j2) = x3 then
        jx_ga x4 6 fun j5 =>
          some (S.2.1 40 j5, S)
      else
        jx_nx (x4 + nI 1) fun y4 =>
          r156 (x3, y4, S)
noncomputable def jm_least_h156 (F : Nat) : Nat → Int32 × Int32 × jm_S → Option (Int32 × jm_S) := jx_loop fun r (a : Int32 × Int32 × jm_S) => jm_least_L156 F r a.1 a.2.1 a.2.2
noncomputable def jm_least_b119 (F : Nat) (x1 : Int32) (x2 : Int32) (x3 : Int32) (S : jm_S) : Option (Int32 × jm_S) :=
  jx_nx (jm_setI S 43 (-1 : Int32)) fun S1 =>
    (jm_doorsOf F x2 S1).bind fun q2 =>
      (jm_chooses F 10 (nI 0) (nI 0) x1 q2.1 q2.2).bind fun q3 =>
        if (q3.1 43) < 0 then
          some (q3.1 43, q3)
        else
          if x3 = (-1 : Int32) then
            some (q3.1 43, q3)
          else
            jx_nx (nI 0) fun y6 =>
              jm_least_h156 F F (x3, y6, q3)
noncomputable def jm_least_L65 (F : Nat) (r65 : Int32 × Int32 × Int32 × Int32 × jm_S → Option (Int32 × jm_S)) (x1 : Int32) (x2 : Int32) (x3 : Int32) (x4 : Int32) (S : jm_S) : Option (Int32 × jm_S) :=
  (jm_orders F  S).bind fun q1 =>
    if q1.1 ≤ x4 then
      jm_least_b119 F x1 x2 x3 q1.2
    else
      if (nI 6) ≤ (q1.2.1 42) then
        jm_least_b119 F x1 x2 x3 q1.2
      else
        (jm_isJump F x4 q1.2).bind fun q4 =>
          if q4.1 = 0 then
            jm_least_b113 F r65 x1 x2 x3 x4 q4.2
          else
            jx_ga (q4.2.1 42) 6 fun j6 => jx_nx (jm_setA q4.2 41 (upd (q4.2.2.1 41) j6 x4)) fun S7 =>
              jx_nx (jm_setI S7 42 ((S7.1 42) + (nI 1))) fun S8 =>
                jm_least_b113 F r65 x1 x2 x3 x4 S8
noncomputable def jm_least_h65 (F : Nat) : Nat → Int32 × Int32 × Int32 × Int32 × jm_S → Option (Int32 × jm_S) := jx_loop fun r (a : Int32 × Int32 × Int32 × Int32 × jm_S) => jm_least_L65 F r a.1 a.2.1 a.2.2.1 a.2.2.2.1 a.2.2.2.2
noncomputable def jm_least_b40 (F : Nat) (x1 : Int32) (x2 : Int32) (x3 : Int32) (k0 : Int32) (S : jm_S) : Option (Int32 × jm_S) :=
  (jm_throwsIf F k0 (nI 1) S).bind fun q1 =>
    if q1.1 = 0 then
      (jm_flows F  q1.2).bind fun q3 =>
        (jm_gradesNow F  q3).bind fun q4 =>
          jx_nx (jm_setI q4 42 (nI 0)) fun S5 =>
            jx_nx (nI 0) fun y6 =>
              jm_least_h65 F F (x1, x2, x3, y6, S5)
    else
      some (nI 0, q1.2)
noncomputable def jm_least_b35 (F : Nat) (x1 : Int32) (x2 : Int32) (x3 : Int32) (S : jm_S) : Option (Int32 × jm_S) :=
  jm_least_b40 F x1 x2 x3 (nI 1) S
noncomputable def jm_least_b39 (F : Nat) (x1 : Int32) (x2 : Int32) (x3 : Int32) (S : jm_S) : Option (Int32 × jm_S) :=
  jm_least_b40 F x1 x2 x3 (nI 0) S
noncomputable def jm_least (F : Nat) (x1 : Int32) (x2 : Int32) (x3 : Int32) (S : jm_S) : Option (Int32 × jm_S) :=
  jx_nx (jm_setI S 0 (nI 0)) fun S1 =>
    (jm_noPower F x1 S1).bind fun q2 =>
      if q2.1 = 0 then
        (jm_noHarm F x2 q2.2).bind fun q4 =>
          if q4.1 = 0 then
            if x3 = (-1 : Int32) then
              jm_least_b39 F x1 x2 x3 q4.2
            else
              (jm_noOrder F x3 q4.2).bind fun q7 =>
                if q7.1 = 0 then
                  jm_least_b39 F x1 x2 x3 q7.2
                else
                  jm_least_b35 F x1 x2 x3 q7.2
          else
            jm_least_b35 F x1 x2 x3 q4.2
      else
        jm_least_b35 F x1 x2 x3 q2.2
noncomputable def jm_gathers_b69 (F : Nat) (r11 : Int32 × jm_S → Option (jm_S)) (x1 : Int32) (S : jm_S) : Option (jm_S) :=
  jx_nx (x1 + nI 1) fun y1 =>
    r11 (y1, S)
noncomputable def jm_gathers_L11 (F : Nat) (r11 : Int32 × jm_S → Option (jm_S)) (x1 : Int32) (S : jm_S) : Option (jm_S) :=
  (jm_orders F  S).bind fun q1 =>
    if q1.1 ≤ x1 then
      some q1.2
    else
      (jm_isJump F x1 q1.2).bind fun q3 =>
        if q3.1 = 0 then
          jm_gathers_b69 F r11 x1 q3.2
        else
          (jm_of F x1 (nI 2) q3.2).bind fun q5 =>
            if q5.1 = 0 then
              jm_gathers_b69 F r11 x1 q5.2
            else
              (jm_of F x1 (nI 2) q5.2).bind fun q7 =>
                (jm_letsBy F x1 q7.1 q7.2).bind fun q8 =>
                  jx_ga (q5.2.1 45) 40 fun j9 => jx_nx (jm_setL q8.2 44 (vp_updL (q8.2.2.2 44) j9 q8.1)) fun S10 =>
                    jx_nx (jm_setI S10 45 ((S10.1 45) + (nI 1))) fun S11 =>
                      jm_gathers_b69 F r11 x1 S11
noncomputable def jm_gathers_h11 (F : Nat) : Nat → Int32 × jm_S → Option (jm_S) := jx_loop fun r (a : Int32 × jm_S) => jm_gathers_L11 F r a.1 a.2
noncomputable def jm_gathers (F : Nat)  (S : jm_S) : Option (jm_S) :=
  (jm_flows F  S).bind fun q1 =>
    jx_nx (jm_setI q1 45 (nI 0)) fun S2 =>
      jx_nx (nI 0) fun y3 =>
        jm_gathers_h11 F F (y3, S2)
noncomputable def jm_marks_b101 (F : Nat) (r34 : Int32 × jm_S → Option (Int32 × jm_S)) (r44 : Int32 × Int32 × jm_S → Option (Int32 × jm_S)) (r54 : Int32 × Int32 × Int32 × jm_S → Option (Int32 × jm_S)) (x1 : Int32) (x2 : Int32) (x3 : Int32) (S : jm_S) : Option (Int32 × jm_S) :=
  jx_nx (x3 + nI 1) fun y1 =>
    r54 (x1, x2, y1, S)
noncomputable def jm_marks_L54 (F : Nat) (r34 : Int32 × jm_S → Option (Int32 × jm_S)) (r44 : Int32 × Int32 × jm_S → Option (Int32 × jm_S)) (r54 : Int32 × Int32 × Int32 × jm_S → Option (Int32 × jm_S)) (x1 : Int32) (x2 : Int32) (x3 : Int32) (S : jm_S) : Option (Int32 × jm_S) :=
  if (S.1 45) ≤ x3 then
    jx_nx (x2 + nI 1) fun y2 =>
      r44 (x1, y2, S)
  else
    jx_ga x2 40 fun j3 =>
      jx_ga x3 40 fun j4 =>
        if (lg_cmp ((S.2.2 44 j3) &&& (S.2.2 44 j4)) (lN 0)) = 0 then
          jm_marks_b101 F r34 r44 r54 x1 x2 x3 S
        else
          jx_ga x2 40 fun j6 =>
            jx_ga x3 40 fun j7 =>
              jx_ga x2 40 fun j9 => jx_nx (jm_setA S 46 (upd (S.2.1 46) j9 (if (S.2.1 46 j7) < (S.2.1 46 j6) then (S.2.1 46 j7) else (S.2.1 46 j6)))) fun S10 =>
                jm_marks_b101 F r34 r44 r54 x1 x2 x3 S10
noncomputable def jm_marks_h54 (F : Nat) (r34 : Int32 × jm_S → Option (Int32 × jm_S)) (r44 : Int32 × Int32 × jm_S → Option (Int32 × jm_S)) : Nat → Int32 × Int32 × Int32 × jm_S → Option (Int32 × jm_S) := jx_loop fun r (a : Int32 × Int32 × Int32 × jm_S) => jm_marks_L54 F r34 r44 r a.1 a.2.1 a.2.2.1 a.2.2.2
noncomputable def jm_marks_L44 (F : Nat) (r34 : Int32 × jm_S → Option (Int32 × jm_S)) (r44 : Int32 × Int32 × jm_S → Option (Int32 × jm_S)) (x1 : Int32) (x2 : Int32) (S : jm_S) : Option (Int32 × jm_S) :=
  if (S.1 45) ≤ x2 then
    jx_nx (x1 + nI 1) fun y2 =>
      r34 (y2, S)
  else
    jx_nx (nI 0) fun y3 =>
      jm_marks_h54 F r34 r44 F (x1, x2, y3, S)
noncomputable def jm_marks_h44 (F : Nat) (r34 : Int32 × jm_S → Option (Int32 × jm_S)) : Nat → Int32 × Int32 × jm_S → Option (Int32 × jm_S) := jx_loop fun r (a : Int32 × Int32 × jm_S) => jm_marks_L44 F r34 r a.1 a.2.1 a.2.2
noncomputable def jm_marks_b147 (F : Nat) (r123 : Int32 × Int32 × jm_S → Option (Int32 × jm_S)) (x2 : Int32) (k0 : Int32) (k1 : Int32) (S : jm_S) : Option (Int32 × jm_S) :=
  jx_nx (k1 + k0) fun y1 =>
    jx_nx (x2 + nI 1) fun y2 =>
      r123 (y1, y2, S)
noncomputable def jm_marks_L123 (F : Nat) (r123 : Int32 × Int32 × jm_S → Option (Int32 × jm_S)) (x1 : Int32) (x2 : Int32) (S : jm_S) : Option (Int32 × jm_S) :=
  if (S.1 45) ≤ x2 then
    some (x1, S)
  else
    jx_ga x2 40 fun j2 =>
      if (S.2.1 46 j2) = x2 then
        jm_marks_b147 F r123 x2 (nI 1) x1 S
      else
        jm_marks_b147 F r123 x2 (nI 0) x1 S
noncomputable def jm_marks_h123 (F : Nat) : Nat → Int32 × Int32 × jm_S → Option (Int32 × jm_S) := jx_loop fun r (a : Int32 × Int32 × jm_S) => jm_marks_L123 F r a.1 a.2.1 a.2.2
noncomputable def jm_marks_L34 (F : Nat) (r34 : Int32 × jm_S → Option (Int32 × jm_S)) (x1 : Int32) (S : jm_S) : Option (Int32 × jm_S) :=
  if (S.1 45) ≤ x1 then
    jx_nx (nI 0) fun y2 =>
      jx_nx (nI 0) fun y3 =>
        jm_marks_h123 F F (y2, y3, S)
  else
    jx_nx (nI 0) fun y4 =>
      jm_marks_h44 F r34 F (x1, y4, S)
noncomputable def jm_marks_h34 (F : Nat) : Nat → Int32 × jm_S → Option (Int32 × jm_S) := jx_loop fun r (a : Int32 × jm_S) => jm_marks_L34 F r a.1 a.2
noncomputable def jm_marks_L11 (F : Nat) (r11 : Int32 × jm_S → Option (Int32 × jm_S)) (x1 : Int32) (S : jm_S) : Option (Int32 × jm_S) :=
  if (S.1 45) ≤ x1 then
    jx_nx (nI 0) fun y2 =>
      jm_marks_h34 F F (y2, S)
  else
    jx_ga x1 40 fun j3 => jx_nx (jm_setA S 46 (upd (S.2.1 46) j3 x1)) fun S4 =>
      jx_nx (x1 + nI 1) fun y5 =>
        r11 (y5, S4)
noncomputable def jm_marks_h11 (F : Nat) : Nat → Int32 × jm_S → Option (Int32 × jm_S) := jx_loop fun r (a : Int32 × jm_S) => jm_marks_L11 F r a.1 a.2
noncomputable def jm_marks (F : Nat)  (S : jm_S) : Option (Int32 × jm_S) :=
  jx_nx (jm_setI S 0 (nI 0)) fun S1 =>
    (jm_gathers F  S1).bind fun q2 =>
      jx_nx (nI 0) fun y3 =>
        jm_marks_h11 F F (y3, q2)
noncomputable def jm_parts_L51 (F : Nat) (rc : Int32 × Int32 × Int32 × jm_S → Option (jm_S)) (r19 : Int32 × Int32 × Int32 × Int32 × jm_S → Option (jm_S)) (r51 : Int32 × Int32 × Int32 × Int32 × Int32 × jm_S → Option (jm_S)) (x1 : Int32) (x2 : Int32) (x4 : Int32) (x5 : Int32) (x6 : Int32) (S : jm_S) : Option (jm_S) :=
  if x5 ≤ x6 then
    jx_nx (x5 + nI 1) fun y2 =>
      r19 (x1, x2, x4, y2, S)
  else
    jx_ga x5 6 fun j3 =>
      jx_ga x6 6 fun j4 =>
        if (lg_cmp ((S.2.2 47 j3) &&& (S.2.2 47 j4)) (lN 0)) = 0 then
          jx_nx (x6 + nI 1) fun y6 =>
            r51 (x1, x2, x4, x5, y6, S)
        else
          some S
noncomputable def jm_parts_h51 (F : Nat) (rc : Int32 × Int32 × Int32 × jm_S → Option (jm_S)) (r19 : Int32 × Int32 × Int32 × Int32 × jm_S → Option (jm_S)) : Nat → Int32 × Int32 × Int32 × Int32 × Int32 × jm_S → Option (jm_S) := jx_loop fun r (a : Int32 × Int32 × Int32 × Int32 × Int32 × jm_S) => jm_parts_L51 F rc r19 r a.1 a.2.1 a.2.2.1 a.2.2.2.1 a.2.2.2.2.1 a.2.2.2.2.2
noncomputable def jm_parts_L94 (F : Nat) (rc : Int32 × Int32 × Int32 × jm_S → Option (jm_S)) (r94 : Int32 × Int32 × Int32 × jm_S → Option (jm_S)) (x1 : Int32) (x4 : Int32) (x5 : Int32) (S : jm_S) : Option (jm_S) :=
  if x1 ≤ x5 then
    if 0 ≤ (S.1 49) then
      jx_nx (jm_setI S 49 (if x4 < (S.1 49) then x4 else (S.1 49))) fun S4 =>
        some S4
    else
      jx_nx (jm_setI S 49 x4) fun S5 =>
        some S5
  else
    jx_ga x5 40 fun j6 =>
      (jx_lbits (S.2.2 44 j6)).bind fun q7 =>
        jx_nx (x4 - q7) fun y8 =>
          jx_nx (x5 + nI 1) fun y9 =>
            r94 (x1, y8, y9, S)
noncomputable def jm_parts_h94 (F : Nat) (rc : Int32 × Int32 × Int32 × jm_S → Option (jm_S)) : Nat → Int32 × Int32 × Int32 × jm_S → Option (jm_S) := jx_loop fun r (a : Int32 × Int32 × Int32 × jm_S) => jm_parts_L94 F rc r a.1 a.2.1 a.2.2.1 a.2.2.2
noncomputable def jm_parts_L19 (F : Nat) (rc : Int32 × Int32 × Int32 × jm_S → Option (jm_S)) (r19 : Int32 × Int32 × Int32 × Int32 × jm_S → Option (jm_S)) (x1 : Int32) (x2 : Int32) (x4 : Int32) (x5 : Int32) (S : jm_S) : Option (jm_S) :=
  if x2 ≤ x5 then
    jx_nx (nI 0) fun y2 =>
      jm_parts_h94 F rc F (x1, x4, y2, S)
  else
    jx_ga x5 6 fun j3 =>
      jx_ga x5 6 fun j4 =>
        (jx_lbits (S.2.2 47 j4)).bind fun q5 =>
          jx_nx (x4 + ((S.2.1 48 j3) * q5)) fun y6 =>
            jx_nx (nI 0) fun y7 =>
              jm_parts_h51 F rc r19 F (x1, x2, y6, x5, y7, S)
noncomputable def jm_parts_h19 (F : Nat) (rc : Int32 × Int32 × Int32 × jm_S → Option (jm_S)) : Nat → Int32 × Int32 × Int32 × Int32 × jm_S → Option (jm_S) := jx_loop fun r (a : Int32 × Int32 × Int32 × Int32 × jm_S) => jm_parts_L19 F rc r a.1 a.2.1 a.2.2.1 a.2.2.2.1 a.2.2.2.2
noncomputable def jm_parts_b244 (F : Nat) (rc : Int32 × Int32 × Int32 × jm_S → Option (jm_S)) (r150 : Int32 × Int32 × Int32 × Int32 × jm_S → Option (jm_S)) (x1 : Int32) (x2 : Int32) (x3 : Int32) (x4 : Int32) (x5 : Int64) (x7 : Int32) (k0 : Int32) (k1 : Int32) (S : jm_S) : Option (jm_S) :=
  (rc (k1, k0, x3, S)).bind fun q1 =>
    jx_ga x4 6 fun j2 => jx_nx (jm_setL q1 47 (vp_updL (q1.2.2 47) j2 x5)) fun S3 =>
      jx_ga x4 6 fun j4 => jx_nx (jm_setA S3 48 (upd (S3.2.1 48) j4 x7)) fun S5 =>
        jx_nx (x4 + nI 1) fun y6 =>
          r150 (x1, x2, x3, y6, S5)
noncomputable def jm_parts_b198 (F : Nat) (rc : Int32 × Int32 × Int32 × jm_S → Option (jm_S)) (r150 : Int32 × Int32 × Int32 × Int32 × jm_S → Option (jm_S)) (x1 : Int32) (x2 : Int32) (x3 : Int32) (x4 : Int32) (x5 : Int64) (k0 : Int32) (S : jm_S) : Option (jm_S) :=
  jx_ga x1 40 fun j1 =>
    jx_ga x4 6 fun j2 => jx_nx (jm_setL S 47 (vp_updL (S.2.2 47) j2 (x5 ||| (S.2.2 44 j1)))) fun S3 =>
      jx_ga x4 6 fun j4 => jx_nx (jm_setA S3 48 (upd (S3.2.1 48) j4 (k0 + (nI 1)))) fun S5 =>
        if x4 = x2 then
          jm_parts_b244 F rc r150 x1 x2 x3 x4 x5 k0 (x2 + (nI 1)) (x1 + (nI 1)) S5
        else
          jm_parts_b244 F rc r150 x1 x2 x3 x4 x5 k0 x2 (x1 + (nI 1)) S5
noncomputable def jm_parts_b179 (F : Nat) (rc : Int32 × Int32 × Int32 × jm_S → Option (jm_S)) (r150 : Int32 × Int32 × Int32 × Int32 × jm_S → Option (jm_S)) (x1 : Int32) (x2 : Int32) (x3 : Int32) (x4 : Int32) (k0 : Int64) (S : jm_S) : Option (jm_S) :=
  if x4 = x2 then
    jm_parts_b198 F rc r150 x1 x2 x3 x4 k0 (nI 0) S
  else
    jx_ga x4 6 fun j2 =>
      jm_parts_b198 F rc r150 x1 x2 x3 x4 k0 (S.2.1 48 j2) S
noncomputable def jm_parts_L150 (F : Nat) (rc : Int32 × Int32 × Int32 × jm_S → Option (jm_S)) (r150 : Int32 × Int32 × Int32 × Int32 × jm_S → Option (jm_S)) (x1 : Int32) (x2 : Int32) (x3 : Int32) (x4 : Int32) (S : jm_S) : Option (jm_S) :=
  if x2 < x4 then
    some S
  else
    if x3 ≤ x4 then
      some S
    else
      if x4 = x2 then
        jm_parts_b179 F rc r150 x1 x2 x3 x4 (lN 0) S
      else
        jx_ga x4 6 fun j4 =>
          jm_parts_b179 F rc r150 x1 x2 x3 x4 (S.2.2 47 j4) S
noncomputable def jm_parts_h150 (F : Nat) (rc : Int32 × Int32 × Int32 × jm_S → Option (jm_S)) : Nat → Int32 × Int32 × Int32 × Int32 × jm_S → Option (jm_S) := jx_loop fun r (a : Int32 × Int32 × Int32 × Int32 × jm_S) => jm_parts_L150 F rc r a.1 a.2.1 a.2.2.1 a.2.2.2.1 a.2.2.2.2
noncomputable def jm_parts_B (F : Nat) (rc : Int32 × Int32 × Int32 × jm_S → Option (jm_S)) (x1 : Int32) (x2 : Int32) (x3 : Int32) (S : jm_S) : Option (jm_S) :=
  if x1 = (if (S.1 45) < (nI 6) then (S.1 45) else (nI 6)) then
    jx_nx (nI 0) fun y4 =>
      jx_nx (nI 0) fun y5 =>
        jm_parts_h19 F rc F (x1, x2, y4, y5, S)
  else
    jx_nx (nI 0) fun y3 =>
      jm_parts_h150 F rc F (x1, x2, x3, y3, S)
noncomputable def jm_parts (F : Nat) (d : Nat) (x1 : Int32) (x2 : Int32) (x3 : Int32) (S : jm_S) : Option (jm_S) := jx_loop (fun rc (a : Int32 × Int32 × Int32 × jm_S) => jm_parts_B F rc a.1 a.2.1 a.2.2.1 a.2.2.2) d (x1, x2, x3, S)
noncomputable def jm_joined_b21 (F : Nat) (x1 : Int32) (k0 : Int32) (S : jm_S) : Option (Int32 × jm_S) :=
  (jm_throwsIf F k0 (nI 1) S).bind fun q1 =>
    if q1.1 = 0 then
      (jm_gathers F  q1.2).bind fun q3 =>
        jx_nx (jm_setI q3 49 (-1 : Int32)) fun S4 =>
          (jm_parts F 10 (nI 0) (nI 0) x1 S4).bind fun q5 =>
            some (q5.1 49, q5)
    else
      some (nI 0, q1.2)
noncomputable def jm_joined (F : Nat) (x1 : Int32) (S : jm_S) : Option (Int32 × jm_S) :=
  jx_nx (jm_setI S 0 (nI 0)) fun S1 =>
    (jm_in x1 (nI 1) (nI 16)).bind fun q2 =>
      if q2 = 0 then
        jm_joined_b21 F x1 (nI 1) S1
      else
        jm_joined_b21 F x1 (nI 0) S1
noncomputable def jm_fence_b150 (F : Nat) (r97 : Int32 × Int32 × Int64 × Int64 × Int64 × Int32 × jm_S → Option (Int32 × jm_S)) (x1 : Int32) (x2 : Int32) (x3 : Int64) (x6 : Int64) (x8 : Int64) (x10 : Int32) (S : jm_S) : Option (Int32 × jm_S) :=
  jx_nx (x10 + nI 1) fun y1 =>
    r97 (x1, x2, x3, x6, x8, y1, S)
noncomputable def jm_fence_L97 (F : Nat) (r97 : Int32 × Int32 × Int64 × Int64 × Int64 × Int32 × jm_S → Option (Int32 × jm_S)) (x1 : Int32) (x2 : Int32) (x3 : Int64) (x6 : Int64) (x8 : Int64) (x10 : Int32) (S : jm_S) : Option (Int32 × jm_S) :=
  (jm_orders F  S).bind fun q1 =>
    if q1.1 ≤ x10 then
      some ((-1 : Int32), q1.2)
    else
      (jm_has x6 x10).bind fun q3 =>
        if q3 = 0 then
          jm_fence_b150 F r97 x1 x2 x3 x6 x8 x10 q1.2
        else
          (jm_in x10 x1 x2).bind fun q5 =>
            if q5 = 0 then
              jx_ga x10 40 fun j7 =>
                if (lg_cmp (((q1.2.2.2 35 j7) &&& x8) &&& (x3 ^^^ (-1 : Int64))) (lN 0)) = 0 then
                  jm_fence_b150 F r97 x1 x2 x3 x6 x8 x10 q1.2
                else
                  some (x10, q1.2)
            else
              jm_fence_b150 F r97 x1 x2 x3 x6 x8 x10 q1.2
noncomputable def jm_fence_h97 (F : Nat) : Nat → Int32 × Int32 × Int64 × Int64 × Int64 × Int32 × jm_S → Option (Int32 × jm_S) := jx_loop fun r (a : Int32 × Int32 × Int64 × Int64 × Int64 × Int32 × jm_S) => jm_fence_L97 F r a.1 a.2.1 a.2.2.1 a.2.2.2.1 a.2.2.2.2.1 a.2.2.2.2.2.1 a.2.2.2.2.2.2
noncomputable def jm_fence_b54 (F : Nat) (x1 : Int32) (x2 : Int32) (x3 : Int64) (x5 : Int32) (k0 : Int32) (S : jm_S) : Option (Int32 × jm_S) :=
  (jm_throwsIf F k0 (nI 2) S).bind fun q1 =>
    if q1.1 = 0 then
      (jm_flows F  q1.2).bind fun q3 =>
        (jm_gradesNow F  q3).bind fun q4 =>
          (jm_ways F x5 q4).bind fun q5 =>
            (jm_closedSet F  q5).bind fun q6 =>
              jx_nx (q6.1) fun y7 =>
                jx_nx (((lN 1) <<< ((x2 + (nI 1)).toInt64 &&& 63)) - ((lN 1) <<< (x1.toInt64 &&& 63))) fun y8 =>
                  jx_nx (nI 0) fun y9 =>
                    jm_fence_h97 F F (x1, x2, x3, y7, y8, y9, q6.2)
    else
      some (nI 0, q1.2)
noncomputable def jm_fence_b36 (F : Nat) (x1 : Int32) (x2 : Int32) (x3 : Int64) (x5 : Int32) (k0 : Int32) (S : jm_S) : Option (Int32 × jm_S) :=
  (jm_throwsIf F k0 (nI 1) S).bind fun q1 =>
    if q1.1 = 0 then
      if x1 ≤ x2 then
        jm_fence_b54 F x1 x2 x3 x5 (nI 0) q1.2
      else
        jm_fence_b54 F x1 x2 x3 x5 (nI 1) q1.2
    else
      some (nI 0, q1.2)
noncomputable def jm_fence_b31 (F : Nat) (x1 : Int32) (x2 : Int32) (x3 : Int64) (x5 : Int32) (S : jm_S) : Option (Int32 × jm_S) :=
  jm_fence_b36 F x1 x2 x3 x5 (nI 1) S
noncomputable def jm_fence (F : Nat) (x1 : Int32) (x2 : Int32) (x3 : Int64) (x5 : Int32) (S : jm_S) : Option (Int32 × jm_S) :=
  jx_nx (jm_setI S 0 (nI 0)) fun S1 =>
    (jm_noOrder F x1 S1).bind fun q2 =>
      if q2.1 = 0 then
        (jm_noOrder F x2 q2.2).bind fun q4 =>
          if q4.1 = 0 then
            (jm_noPower F x5 q4.2).bind fun q6 =>
              if q6.1 = 0 then
                jm_fence_b36 F x1 x2 x3 x5 (nI 0) q6.2
              else
                jm_fence_b31 F x1 x2 x3 x5 q6.2
          else
            jm_fence_b31 F x1 x2 x3 x5 q4.2
      else
        jm_fence_b31 F x1 x2 x3 x5 q2.2
noncomputable def jm_late_b21 (F : Nat) (x1 : Int32) (k0 : Int32) (S : jm_S) : Option (Int32 × jm_S) :=
  (jm_throwsIf F k0 (nI 1) S).bind fun q1 =>
    if q1.1 = 0 then
      (jm_runs F (nI 1) (nI 0) q1.2).bind fun q3 =>
        if (q3.1 32) = 0 then
          some ((-1 : Int32), q3)
        else
          jx_gn x1 (  jx_nx (((((q3.1 32) + x1) - (nI 1)) / x1) * x1) fun y6 =>
              some ((if (q3.1 29) < y6 then (q3.1 29) else y6) - (q3.1 32), q3))
    else
      some (nI 0, q1.2)
noncomputable def jm_late (F : Nat) (x1 : Int32) (S : jm_S) : Option (Int32 × jm_S) :=
  jx_nx (jm_setI S 0 (nI 0)) fun S1 =>
    (jm_in x1 (nI 1) (nI 20)).bind fun q2 =>
      if q2 = 0 then
        jm_late_b21 F x1 (nI 1) S1
      else
        jm_late_b21 F x1 (nI 0) S1
noncomputable def jm_judge_L12 (F : Nat) (r12 : Int32 × jm_S → Option (Int32 × jm_S)) (x1 : Int32) (S : jm_S) : Option (Int32 × jm_S) :=
  if (S.1 7) ≤ x1 then
    some ((-1 : Int32), S)
  else
    if (S.1 24) ≤ x1 then
      some (x1, S)
    else
      jx_ga x1 400 fun j3 =>
        jx_ga x1 300 fun j4 =>
          if ((S.2.1 4 j3) &&& (nI 255)) = (S.2.1 22 j4) then
            jx_nx (x1 + nI 1) fun y6 =>
              r12 (y6, S)
          else
            some (x1, S)
noncomputable def jm_judge_h12 (F : Nat) : Nat → Int32 × jm_S → Option (Int32 × jm_S) := jx_loop fun r (a : Int32 × jm_S) => jm_judge_L12 F r a.1 a.2
noncomputable def jm_judge (F : Nat)  (S : jm_S) : Option (Int32 × jm_S) :=
  (jm_uses F  S).bind fun q1 =>
    (jm_runs F (nI 1) (nI 1) q1).bind fun q2 =>
      jx_nx (nI 0) fun y3 =>
        jm_judge_h12 F F (y3, q2)
noncomputable def jm_reaches_b45 (F : Nat) (r4 : Int32 × Int32 × Int32 × jm_S → Option (Int32 × jm_S)) (r17 : Int32 × Int32 × Int32 × Int32 × jm_S → Option (Int32 × jm_S)) (x1 : Int32) (x3 : Int32) (x4 : Int32) (k0 : Int32) (k1 : Int32) (S : jm_S) : Option (Int32 × jm_S) :=
  jx_nx (k1 + k0) fun y1 =>
    jx_nx (x4 + nI 1) fun y2 =>
      r17 (x1, y1, x3, y2, S)
noncomputable def jm_reaches_L17 (F : Nat) (r4 : Int32 × Int32 × Int32 × jm_S → Option (Int32 × jm_S)) (r17 : Int32 × Int32 × Int32 × Int32 × jm_S → Option (Int32 × jm_S)) (x1 : Int32) (x2 : Int32) (x3 : Int32) (x4 : Int32) (S : jm_S) : Option (Int32 × jm_S) :=
  jx_ga (nI 3) 412 fun j1 =>
    if (S.2.1 1 j1) ≤ x4 then
      jx_nx (x3 + nI 1) fun y3 =>
        r4 (x1, x2, y3, S)
    else
      (jm_reachOf F x3 x4 S).bind fun q4 =>
        if q4.1 = x1 then
          jm_reaches_b45 F r4 r17 x1 x3 x4 (nI 1) x2 q4.2
        else
          jm_reaches_b45 F r4 r17 x1 x3 x4 (nI 0) x2 q4.2
noncomputable def jm_reaches_h17 (F : Nat) (r4 : Int32 × Int32 × Int32 × jm_S → Option (Int32 × jm_S)) : Nat → Int32 × Int32 × Int32 × Int32 × jm_S → Option (Int32 × jm_S) := jx_loop fun r (a : Int32 × Int32 × Int32 × Int32 × jm_S) => jm_reaches_L17 F r4 r a.1 a.2.1 a.2.2.1 a.2.2.2.1 a.2.2.2.2
noncomputable def jm_reaches_L4 (F : Nat) (r4 : Int32 × Int32 × Int32 × jm_S → Option (Int32 × jm_S)) (x1 : Int32) (x2 : Int32) (x3 : Int32) (S : jm_S) : Option (Int32 × jm_S) :=
  jx_ga (nI 2) 412 fun j1 =>
    if (S.2.1 1 j1) ≤ x3 then
      some (x2, S)
    else
      jx_nx (nI 0) fun y3 =>
        jm_reaches_h17 F r4 F (x1, x2, x3, y3, S)
noncomputable def jm_reaches_h4 (F : Nat) : Nat → Int32 × Int32 × Int32 × jm_S → Option (Int32 × jm_S) := jx_loop fun r (a : Int32 × Int32 × Int32 × jm_S) => jm_reaches_L4 F r a.1 a.2.1 a.2.2.1 a.2.2.2
noncomputable def jm_reaches (F : Nat) (x1 : Int32) (S : jm_S) : Option (Int32 × jm_S) :=
  jx_nx (nI 0) fun y1 =>
    jx_nx (nI 0) fun y2 =>
      jm_reaches_h4 F F (x1, y1, y2, S)
noncomputable def jm_count_b107 (F : Nat) (r71 : Int32 × Int32 × Int32 × jm_S → Option (Int32 × jm_S)) (x1 : Int32) (x3 : Int32) (k0 : Int32) (k1 : Int32) (S : jm_S) : Option (Int32 × jm_S) :=
  jx_nx (k1 + k0) fun y1 =>
    jx_nx (x3 + nI 1) fun y2 =>
      r71 (x1, y1, y2, S)
noncomputable def jm_count_b102 (F : Nat) (r71 : Int32 × Int32 × Int32 × jm_S → Option (Int32 × jm_S)) (x1 : Int32) (x3 : Int32) (k0 : Int32) (S : jm_S) : Option (Int32 × jm_S) :=
  jm_count_b107 F r71 x1 x3 (nI 1) k0 S
noncomputable def jm_count_b106 (F : Nat) (r71 : Int32 × Int32 × Int32 × jm_S → Option (Int32 × jm_S)) (x1 : Int32) (x3 : Int32) (k0 : Int32) (S : jm_S) : Option (Int32 × jm_S) :=
  jm_count_b107 F r71 x1 x3 (nI 0) k0 S
noncomputable def jm_count_L71 (F : Nat) (r71 : Int32 × Int32 × Int32 × jm_S → Option (Int32 × jm_S)) (x1 : Int32) (x2 : Int32) (x3 : Int32) (S : jm_S) : Option (Int32 × jm_S) :=
  (jm_orders F  S).bind fun q1 =>
    if q1.1 ≤ x3 then
      some (x2, q1.2)
    else
      (jm_isJump F x3 q1.2).bind fun q3 =>
        if q3.1 = 0 then
          jm_count_b106 F r71 x1 x3 x2 q3.2
        else
          if x1 = (nI 1) then
            jm_count_b102 F r71 x1 x3 x2 q3.2
          else
            (jm_of F x3 (nI 2) q3.2).bind fun q6 =>
              if q6.1 ≤ 0 then
                jm_count_b106 F r71 x1 x3 x2 q6.2
              else
                jm_count_b102 F r71 x1 x3 x2 q6.2
noncomputable def jm_count_h71 (F : Nat) : Nat → Int32 × Int32 × Int32 × jm_S → Option (Int32 × jm_S) := jx_loop fun r (a : Int32 × Int32 × Int32 × jm_S) => jm_count_L71 F r a.1 a.2.1 a.2.2.1 a.2.2.2
noncomputable def jm_count_b69 (F : Nat) (x1 : Int32) (x2 : Int32) (S : jm_S) : Option (Int32 × jm_S) :=
  jx_nx (nI 0) fun y1 =>
    jm_count_h71 F F (x1, x2, y1, S)
noncomputable def jm_count_b163 (F : Nat) (r140 : Int32 × Int32 × jm_S → Option (Int32 × jm_S)) (x3 : Int32) (k0 : Int32) (k1 : Int32) (S : jm_S) : Option (Int32 × jm_S) :=
  jx_nx (k1 + k0) fun y1 =>
    jx_nx (x3 + nI 1) fun y2 =>
      r140 (y1, y2, S)
noncomputable def jm_count_L140 (F : Nat) (r140 : Int32 × Int32 × jm_S → Option (Int32 × jm_S)) (x2 : Int32) (x3 : Int32) (S : jm_S) : Option (Int32 × jm_S) :=
  (jm_orders F  S).bind fun q1 =>
    if q1.1 ≤ x3 then
      some (x2, q1.2)
    else
      (jm_of F x3 (nI 1) q1.2).bind fun q3 =>
        if q3.1 < 0 then
          jm_count_b163 F r140 x3 (nI 0) x2 q3.2
        else
          jm_count_b163 F r140 x3 (nI 1) x2 q3.2
noncomputable def jm_count_h140 (F : Nat) : Nat → Int32 × Int32 × jm_S → Option (Int32 × jm_S) := jx_loop fun r (a : Int32 × Int32 × jm_S) => jm_count_L140 F r a.1 a.2.1 a.2.2
noncomputable def jm_count_b200 (F : Nat) (r179 : Int32 × Int32 × jm_S → Option (Int32 × jm_S)) (x3 : Int32) (k0 : Int32) (k1 : Int32) (S : jm_S) : Option (Int32 × jm_S) :=
  jx_nx (k1 + k0) fun y1 =>
    jx_nx (x3 + nI 1) fun y2 =>
      r179 (y1, y2, S)
noncomputable def jm_count_L179 (F : Nat) (r179 : Int32 × Int32 × jm_S → Option (Int32 × jm_S)) (x2 : Int32) (x3 : Int32) (S : jm_S) : Option (Int32 × jm_S) :=
  if (nI 16) ≤ x3 then
    some (x2, S)
  else
    jx_ga x3 16 fun j2 =>
      if (S.2.1 13 j2) = 0 then
        jm_count_b200 F r179 x3 (nI 0) x2 S
      else
        jm_count_b200 F r179 x3 (nI 1) x2 S
noncomputable def jm_count_h179 (F : Nat) : Nat → Int32 × Int32 × jm_S → Option (Int32 × jm_S) := jx_loop fun r (a : Int32 × Int32 × jm_S) => jm_count_L179 F r a.1 a.2.1 a.2.2
noncomputable def jm_count (F : Nat) (x1 : Int32) (S : jm_S) : Option (Int32 × jm_S) :=
  jx_nx (jm_setI S 0 (nI 0)) fun S1 =>
    jx_nx (nI 0) fun y2 =>
      if x1 = nI 0 then
        (jm_orders F  S1).bind fun q3 =>
          some (q3.1, q3.2)
      else
        if x1 = nI 1 then
          jm_count_b69 F x1 y2 S1
        else
          if x1 = nI 2 then
            jm_count_b69 F x1 y2 S1
          else
            if x1 = nI 3 then
              jx_ga (nI 1) 412 fun j4 =>
                some (S1.2.1 1 j4, S1)
            else
              if x1 = nI 4 then
                jx_ga (nI 2) 412 fun j5 =>
                  some (S1.2.1 1 j5, S1)
              else
                if x1 = nI 5 then
                  jx_ga (nI 3) 412 fun j6 =>
                    some (S1.2.1 1 j6, S1)
                else
                  if x1 = nI 6 then
                    jx_nx (nI 0) fun y7 =>
                      jm_count_h140 F F (y2, y7, S1)
                  else
                    if x1 = nI 7 then
                      (jm_flows F  S1).bind fun q8 =>
                        jx_nx (nI 0) fun y9 =>
                          jm_count_h179 F F (y2, y9, q8)
                    else
                      if x1 = nI 8 then
                        (jm_reaches F (nI 0) S1).bind fun q10 =>
                          some (q10.1, q10.2)
                      else
                        if x1 = nI 9 then
                          (jm_reaches F (nI 1) S1).bind fun q11 =>
                            some (q11.1, q11.2)
                        else
                          some ((-1 : Int32), S1)

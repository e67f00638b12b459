set_option maxRecDepth 100000
noncomputable def jf_must (F : Nat) (x0 : Int32) (S : jf_S) : Option ((Unit ⊕ Nat) × jf_S) :=
  if x0 = 0 then
    some (.inr 17, S)
  else
    some (.inl (), S)
noncomputable def jf_mayBe (F : Nat) (x0 : Int32) (S : jf_S) : Option ((Unit ⊕ Nat) × jf_S) :=
  if x0 = 0 then
    some (.inr 21, S)
  else
    some (.inl (), S)
noncomputable def jf_mustBe (F : Nat) (x0 : Int32) (S : jf_S) : Option ((Unit ⊕ Nat) × jf_S) :=
  if x0 = 0 then
    some (.inr 18, S)
  else
    some (.inl (), S)
noncomputable def jf_thereIs (F : Nat) (x0 : Int32) (S : jf_S) : Option ((Unit ⊕ Nat) × jf_S) :=
  if x0 = 0 then
    some (.inr 19, S)
  else
    some (.inl (), S)
noncomputable def jf_isCell (F : Nat) (x0 : Int32) (x1 : Int32) (S : jf_S) : Option ((Unit ⊕ Nat) × jf_S) :=
  (jf_isIn x0 (nI 0) (x1 - (nI 1))).bind fun q1 =>
    jx_xb (jf_mustBe F q1 S) fun _ S3 =>
      some (.inl (), S3)
noncomputable def jf_orderAt (F : Nat) (x1 : Int32) (S : jf_S) : Option ((jo_R ⊕ Nat) × jf_S) :=
  (jf_isIn x1 (nI 0) ((S.1 3 13) - (nI 1))).bind fun q1 =>
    jx_xb (jf_mustBe F q1 S) fun _ S3 =>
      jx_ga x1 40 fun j4 => (S3.2.2.2.2 3 j4).bind fun r5 =>
        some (.inl r5, S3)
noncomputable def jf_isJump (F : Nat) (x1 : Int32) (S : jf_S) : Option ((Unit ⊕ Nat) × jf_S) :=
  jx_xb (jf_orderAt F x1 S) fun v1 S2 =>
    (jv_isJump F v1 S2).bind fun q3 =>
      if q3.1 = 0 then
        some (.inr 20, q3.2)
      else
        some (.inl (), q3.2)
noncomputable def jf_isPower (F : Nat) (x1 : Int32) (S : jf_S) : Option ((Unit ⊕ Nat) × jf_S) :=
  (jf_isIn x1 (nI 0) ((S.1 3 14) - (nI 1))).bind fun q1 =>
    jx_xb (jf_mustBe F q1 S) fun _ S3 =>
      some (.inl (), S3)
noncomputable def jf_isHarm (F : Nat) (x1 : Int32) (S : jf_S) : Option ((Unit ⊕ Nat) × jf_S) :=
  (jf_isIn x1 (nI 0) ((S.1 3 15) - (nI 1))).bind fun q1 =>
    jx_xb (jf_mustBe F q1 S) fun _ S3 =>
      some (.inl (), S3)
noncomputable def jf_order (F : Nat) (x1 : Int32) (x2 : Int32) (S : jf_S) : Option ((Int32 ⊕ Nat) × jf_S) :=
  jx_xb (jf_orderAt F x1 S) fun v1 S2 =>
    if x2 = nI 0 then
      (jv_word F v1 S2).bind fun q3 =>
        some (.inl q3.1, q3.2)
    else
      if x2 = nI 1 then
        some (.inl (v1 1), S2)
      else
        if x2 = nI 2 then
          jx_ga x1 40 fun j4 =>
            some (.inl (S2.2.2.1 3 1 j4), S2)
        else
          if x2 = nI 3 then
            (jv_kind F v1 S2).bind fun q5 =>
              some (.inl q5.1, q5.2)
          else
            if x2 = nI 4 then
              (jv_place F v1 S2).bind fun q6 =>
                some (.inl q6.1, q6.2)
            else
              some (.inr 19, S2)
noncomputable def jf_grade_b32 (F : Nat) (x1 : Int32) (x2 : Int32) (k0 : Int32) (S : jf_S) : Option ((Int32 ⊕ Nat) × jf_S) :=
  jx_ga x1 40 fun j1 => jx_nx (jf_setA S 3 1 (upd (S.2.2.1 3 1) j1 x2)) fun S2 =>
    jx_gz k0 (some (.inl k0, S2))
noncomputable def jf_grade (F : Nat) (x1 : Int32) (x2 : Int32) (S : jf_S) : Option ((Int32 ⊕ Nat) × jf_S) :=
  jx_xb (jf_isJump F x1 S) fun _ S2 =>
    (jf_isIn x2 (nI 0) (nI 3)).bind fun q3 =>
      jx_xb (jf_must F q3 S2) fun _ S5 =>
        jx_ga x1 40 fun j6 =>
          if (S5.2.2.1 3 1 j6) = x2 then
            jf_grade_b32 F x1 x2 (nI 0) S5
          else
            jf_grade_b32 F x1 x2 (nI 1) S5
noncomputable def jf_ticks_b24 (F : Nat) (x1 : Int32) (x2 : Int32) (k0 : Int32) (S : jf_S) : Option ((Unit ⊕ Nat) × jf_S) :=
  jx_xb (jf_must F k0 S) fun _ S2 =>
    jx_ga x1 4 fun j3 => jx_nx (jf_setA S2 3 2 (upd (S2.2.2.1 3 2) j3 x2)) fun S4 =>
      some (.inl (), S4)
noncomputable def jf_ticks_b23 (F : Nat) (x1 : Int32) (x2 : Int32) (S : jf_S) : Option ((Unit ⊕ Nat) × jf_S) :=
  jf_ticks_b24 F x1 x2 (nI 0) S
noncomputable def jf_ticks (F : Nat) (x1 : Int32) (x2 : Int32) (S : jf_S) : Option ((Unit ⊕ Nat) × jf_S) :=
  (jf_isIn x1 (nI 1) (nI 3)).bind fun q1 =>
    if q1 = 0 then
      jf_ticks_b23 F x1 x2 S
    else
      (jf_isIn x2 (nI 1) (nI 99)).bind fun q3 =>
        if q3 = 0 then
          jf_ticks_b23 F x1 x2 S
        else
          jf_ticks_b24 F x1 x2 (nI 1) S
noncomputable def jf_landings (F : Nat) (x1 : Int32) (x2 : Int32) (S : jf_S) : Option ((Int64 ⊕ Nat) × jf_S) :=
  jx_xb (jf_isJump F x1 S) fun _ S2 =>
    if x2 = 0 then
      jx_ga x1 40 fun j4 =>
        some (.inl (S2.2.2.2.1 3 10 j4), S2)
    else
      jx_ga x1 40 fun j5 =>
        some (.inl (S2.2.2.2.1 3 11 j5), S2)
noncomputable def jf_lets (F : Nat) (x1 : Int32) (S : jf_S) : Option ((Int64 ⊕ Nat) × jf_S) :=
  jx_xb (jf_isJump F x1 S) fun _ S2 =>
    jx_ga x1 40 fun j3 =>
      (jp_lets F 3 x1 (S2.2.2.1 3 1 j3) S2).bind fun q4 =>
        some (.inl q4.1, q4.2)
noncomputable def jf_holds (F : Nat) (x1 : Int32) (S : jf_S) : Option ((Int64 ⊕ Nat) × jf_S) :=
  jx_xb (jf_isCell F x1 (nI 16) S) fun _ S2 =>
    jx_ga x1 16 fun j3 =>
      some (.inl (S2.2.2.2.1 3 9 j3), S2)
noncomputable def jf_odd (F : Nat) (x1 : Int32) (S : jf_S) : Option ((Int32 ⊕ Nat) × jf_S) :=
  jx_xb (jf_isCell F x1 (nI 16) S) fun _ S2 =>
    if (((S2.1 3 17) >>> (x1 &&& 31)) &&& (nI 1)) = (nI 1) then
      some (.inl (nI 1), S2)
    else
      some (.inl (nI 0), S2)
noncomputable def jf_bend_b34 (F : Nat) (x1 : Int32) (x2 : Int32) (x3 : Int32) (k0 : Int32) (S : jf_S) : Option ((Int32 ⊕ Nat) × jf_S) :=
  jx_xb (jf_mayBe F k0 S) fun _ S2 =>
    jx_ga (S2.1 3 16) 8 fun j3 => jx_nx (jf_setA S2 3 5 (upd (S2.2.2.1 3 5) j3 x1)) fun S4 =>
      jx_ga (S4.1 3 16) 8 fun j5 => jx_nx (jf_setA S4 3 6 (upd (S4.2.2.1 3 6) j5 x2)) fun S6 =>
        jx_ga (S6.1 3 16) 8 fun j7 => jx_nx (jf_setA S6 3 7 (upd (S6.2.2.1 3 7) j7 x3)) fun S8 =>
          jx_nx (jf_setI S8 3 16 ((S8.1 3 16) + (nI 1))) fun S9 =>
            some (.inl ((S9.1 3 16) - (nI 1)), S9)
noncomputable def jf_bend (F : Nat) (x1 : Int32) (x2 : Int32) (x3 : Int32) (S : jf_S) : Option ((Int32 ⊕ Nat) × jf_S) :=
  jx_xb (jf_isCell F x2 (nI 17) S) fun _ S2 =>
    (jf_isIn x1 (nI 0) (nI 299)).bind fun q3 =>
      jx_xb (jf_must F q3 S2) fun _ S5 =>
        if (nI 8) ≤ (S5.1 3 16) then
          jf_bend_b34 F x1 x2 x3 (nI 0) S5
        else
          jf_bend_b34 F x1 x2 x3 (nI 1) S5
noncomputable def jf_run (F : Nat) (x1 : Int32) (x2 : Int32) (S : jf_S) : Option ((Int32 ⊕ Nat) × jf_S) :=
  (jf_isIn x2 (nI 0) (nI 7)).bind fun q1 =>
    jx_xb (jf_thereIs F q1 S) fun _ S3 =>
      (jk_runs F x1 (nI 1) S3).bind fun q4 =>
        if x2 = nI 0 then
          some (.inl (q4.1 5 14), q4)
        else
          if x2 = nI 1 then
            some (.inl (q4.1 5 10), q4)
          else
            if x2 = nI 2 then
              some (.inl (q4.1 5 11), q4)
            else
              if x2 = nI 3 then
                some (.inl (q4.1 5 9), q4)
              else
                if x2 = nI 4 then
                  some (.inl (q4.1 5 12), q4)
                else
                  if x2 = nI 5 then
                    some (.inl (q4.1 5 13), q4)
                  else
                    if x2 = nI 6 then
                      some (.inl (q4.1 5 15), q4)
                    else
                      some (.inl (q4.1 5 16), q4)
noncomputable def jf_cell (F : Nat) (x1 : Int32) (x2 : Int32) (S : jf_S) : Option ((Int32 ⊕ Nat) × jf_S) :=
  jx_xb (jf_isCell F x2 (nI 16) S) fun _ S2 =>
    (jk_runs F x1 (nI 1) S2).bind fun q3 =>
      jx_ga x2 16 fun j4 =>
        some (.inl (q3.2.2.1 5 1 j4), q3)
noncomputable def jf_power_b27 (F : Nat) (x1 : Int32) (x2 : Int32) (k0 : Int32) (S : jf_S) : Option ((Int32 ⊕ Nat) × jf_S) :=
  jx_xb (jf_mayBe F k0 S) fun _ S2 =>
    jx_ga (S2.1 3 14) 6 fun j3 => jx_nx (jf_setA S2 3 3 (upd (S2.2.2.1 3 3) j3 x1)) fun S4 =>
      jx_ga (S4.1 3 14) 6 fun j5 => jx_nx (jf_setA S4 3 8 (upd (S4.2.2.1 3 8) j5 (vp_nar .boolean x2))) fun S6 =>
        jx_nx (jf_setI S6 3 14 ((S6.1 3 14) + (nI 1))) fun S7 =>
          some (.inl ((S7.1 3 14) - (nI 1)), S7)
noncomputable def jf_power (F : Nat) (x1 : Int32) (x2 : Int32) (S : jf_S) : Option ((Int32 ⊕ Nat) × jf_S) :=
  (jf_isIn x1 (nI 0) (65535 : Int32)).bind fun q1 =>
    jx_xb (jf_must F q1 S) fun _ S3 =>
      if (nI 6) ≤ (S3.1 3 14) then
        jf_power_b27 F x1 x2 (nI 0) S3
      else
        jf_power_b27 F x1 x2 (nI 1) S3
noncomputable def jf_harm_b28 (F : Nat) (x1 : Int32) (k0 : Int32) (S : jf_S) : Option ((Int32 ⊕ Nat) × jf_S) :=
  jx_xb (jf_mayBe F k0 S) fun _ S2 =>
    jx_ga (S2.1 3 15) 8 fun j3 => jx_nx (jf_setA S2 3 4 (upd (S2.2.2.1 3 4) j3 x1)) fun S4 =>
      jx_nx (jf_setI S4 3 15 ((S4.1 3 15) + (nI 1))) fun S5 =>
        some (.inl ((S5.1 3 15) - (nI 1)), S5)
noncomputable def jf_harm (F : Nat) (x1 : Int32) (S : jf_S) : Option ((Int32 ⊕ Nat) × jf_S) :=
  (jf_isIn x1 (nI 0) (nI 999)).bind fun q1 =>
    jx_xb (jf_must F q1 S) fun _ S3 =>
      if (nI 8) ≤ (S3.1 3 15) then
        jf_harm_b28 F x1 (nI 0) S3
      else
        jf_harm_b28 F x1 (nI 1) S3
noncomputable def jf_reach (F : Nat) (x1 : Int32) (x2 : Int32) (S : jf_S) : Option ((Int32 ⊕ Nat) × jf_S) :=
  jx_xb (jf_isPower F x1 S) fun _ S2 =>
    jx_xb (jf_isHarm F x2 S2) fun _ S4 =>
      (jf_reaches F x1 x2 S4).bind fun q5 =>
        some (.inl q5.1, q5.2)
noncomputable def jf_row (F : Nat) (x1 : Int32) (x2 : Int32) (x3 : Int32) (S : jf_S) : Option ((Int32 ⊕ Nat) × jf_S) :=
  jx_xb (jf_isPower F x1 S) fun _ S2 =>
    jx_xb (jf_isHarm F x2 S2) fun _ S4 =>
      (jf_finds F x1 x2 S4).bind fun q5 =>
        (jf_isIn x3 (nI 0) ((q5.2.1 0 10) - (nI 1))).bind fun q6 =>
          if q6 = 0 then
            some (.inl (-1 : Int32), q5.2)
          else
            jx_ga x3 40 fun j8 =>
              some (.inl (q5.2.2.2.1 0 5 j8), q5.2)
noncomputable def jf_closed (F : Nat) (x1 : Int32) (S : jf_S) : Option ((Int64 ⊕ Nat) × jf_S) :=
  jx_xb (jf_isPower F x1 S) fun _ S2 =>
    (jp_closed F 3 3 1 x1 S2).bind fun q3 =>
      some (.inl q3.1, q3.2)
noncomputable def jf_least_b101 (F : Nat) (r40 : Int32 × Int32 × Int32 × Int32 × jf_S → Option ((Int32 ⊕ Nat) × jf_S)) (x1 : Int32) (x2 : Int32) (x3 : Int32) (x4 : Int32) (S : jf_S) : Option ((Int32 ⊕ Nat) × jf_S) :=
  jx_nx (x4 + nI 1) fun y1 =>
    r40 (x1, x2, x3, y1, S)
noncomputable def jf_least_L167 (F : Nat) (r167 : Int32 × Int32 × jf_S → Option ((Int32 ⊕ Nat) × jf_S)) (x3 : Int32) (x4 : Int32) (S : jf_S) : Option ((Int32 ⊕ Nat) × jf_S) :=
  if (S.1 0 11) ≤ x4 then
    some (.inl (-1 : Int32), S)
  else
    jx_ga x4 6 fun j2 =>
      if (S.2.2.1 0 8 j2) = x3 then
        jx_ga x3 40 fun j5 =>
          some (.inl (S.2.2.1 0 7 j5), S)
      else
        jx_nx (x4 + nI 1) fun y4 =>
          r167 (x3, y4, S)
noncomputable def jf_least_h167 (F : Nat) : Nat → Int32 × Int32 × jf_S → Option ((Int32 ⊕ Nat) × jf_S) := jx_loop fun r (a : Int32 × Int32 × jf_S) => jf_least_L167 F r a.1 a.2.1 a.2.2
noncomputable def jf_least_b107 (F : Nat) (x1 : Int32) (x2 : Int32) (x3 : Int32) (S : jf_S) : Option ((Int32 ⊕ Nat) × jf_S) :=
  jx_nx (jf_setA S 0 6 (va_cpy (S.2.2.1 3 1) (S.2.2.1 0 6) 0 0 40)) fun S1 =>
    jx_nx (jf_setI S1 0 14 (nI 0)) fun S2 =>
      (jp_doors F 3 x2 S2).bind fun q3 =>
        (jf_chooses F 10 (nI 0) x1 q3.1 (nI 0) q3.2).bind fun q4 =>
          if (q4.1 0 14) = 0 then
            some (.inl (-1 : Int32), q4)
          else
            if x3 = (-1 : Int32) then
              some (.inl (q4.1 0 13), q4)
            else
              jx_nx (nI 0) fun y7 =>
                jf_least_h167 F F (x3, y7, q4)
noncomputable def jf_least_L40 (F : Nat) (r40 : Int32 × Int32 × Int32 × Int32 × jf_S → Option ((Int32 ⊕ Nat) × jf_S)) (x1 : Int32) (x2 : Int32) (x3 : Int32) (x4 : Int32) (S : jf_S) : Option ((Int32 ⊕ Nat) × jf_S) :=
  if (S.1 3 13) ≤ x4 then
    jf_least_b107 F x1 x2 x3 S
  else
    if (nI 6) ≤ (S.1 0 11) then
      jf_least_b107 F x1 x2 x3 S
    else
      jx_ga x4 40 fun j3 => (S.2.2.2.2 3 j3).bind fun r4 =>
        (jv_isJump F r4 S).bind fun q5 =>
          if q5.1 = 0 then
            jf_least_b101 F r40 x1 x2 x3 x4 q5.2
          else
            jx_ga (q5.2.1 0 11) 6 fun j7 => jx_nx (jf_setA q5.2 0 8 (upd (q5.2.2.2.1 0 8) j7 x4)) fun S8 =>
              jx_nx (jf_setI S8 0 11 ((S8.1 0 11) + (nI 1))) fun S9 =>
                jf_least_b101 F r40 x1 x2 x3 x4 S9
noncomputable def jf_least_h40 (F : Nat) : Nat → Int32 × Int32 × Int32 × Int32 × jf_S → Option ((Int32 ⊕ Nat) × jf_S) := jx_loop fun r (a : Int32 × Int32 × Int32 × Int32 × jf_S) => jf_least_L40 F r a.1 a.2.1 a.2.2.1 a.2.2.2.1 a.2.2.2.2
noncomputable def jf_least_b32 (F : Nat) (x1 : Int32) (x2 : Int32) (x3 : Int32) (S : jf_S) : Option ((Int32 ⊕ Nat) × jf_S) :=
  jx_nx (jf_setI S 0 11 (nI 0)) fun S1 =>
    jx_nx (nI 0) fun y2 =>
      jf_least_h40 F F (x1, x2, x3, y2, S1)
noncomputable def jf_least (F : Nat) (x1 : Int32) (x2 : Int32) (x3 : Int32) (S : jf_S) : Option ((Int32 ⊕ Nat) × jf_S) :=
  jx_xb (jf_isPower F x1 S) fun _ S2 =>
    jx_xb (jf_isHarm F x2 S2) fun _ S4 =>
      if x3 = (-1 : Int32) then
        jf_least_b32 F x1 x2 x3 S4
      else
        (jf_isIn x3 (nI 0) ((S4.1 3 13) - (nI 1))).bind fun q6 =>
          jx_xb (jf_mustBe F q6 S4) fun _ S8 =>
            jf_least_b32 F x1 x2 x3 S8
noncomputable def jf_joined_b68 (F : Nat) (r17 : Int32 × Int32 × jf_S → Option ((Int32 ⊕ Nat) × jf_S)) (x1 : Int32) (x2 : Int32) (S : jf_S) : Option ((Int32 ⊕ Nat) × jf_S) :=
  jx_nx (x2 + nI 1) fun y1 =>
    r17 (x1, y1, S)
noncomputable def jf_joined_b74 (F : Nat) (x1 : Int32) (S : jf_S) : Option ((Int32 ⊕ Nat) × jf_S) :=
  jx_nx (jf_setI S 0 14 (nI 0)) fun S1 =>
    (jf_parts F 10 (nI 0) (nI 0) x1 S1).bind fun q2 =>
      some (.inl (q2.1 0 13), q2)
noncomputable def jf_joined_L17 (F : Nat) (r17 : Int32 × Int32 × jf_S → Option ((Int32 ⊕ Nat) × jf_S)) (x1 : Int32) (x2 : Int32) (S : jf_S) : Option ((Int32 ⊕ Nat) × jf_S) :=
  if (S.1 3 13) ≤ x2 then
    jf_joined_b74 F x1 S
  else
    if (nI 6) ≤ (S.1 0 11) then
      jf_joined_b74 F x1 S
    else
      (jf_isGuarded F x2 S).bind fun q3 =>
        if q3.1 = 0 then
          jf_joined_b68 F r17 x1 x2 q3.2
        else
          jx_ga (q3.2.1 0 11) 6 fun j5 => jx_nx (jf_setA q3.2 0 8 (upd (q3.2.2.2.1 0 8) j5 x2)) fun S6 =>
            jx_nx (jf_setI S6 0 11 ((S6.1 0 11) + (nI 1))) fun S7 =>
              jf_joined_b68 F r17 x1 x2 S7
noncomputable def jf_joined_h17 (F : Nat) : Nat → Int32 × Int32 × jf_S → Option ((Int32 ⊕ Nat) × jf_S) := jx_loop fun r (a : Int32 × Int32 × jf_S) => jf_joined_L17 F r a.1 a.2.1 a.2.2
noncomputable def jf_joined (F : Nat) (x1 : Int32) (S : jf_S) : Option ((Int32 ⊕ Nat) × jf_S) :=
  (jf_isIn x1 (nI 1) (nI 16)).bind fun q1 =>
    jx_xb (jf_must F q1 S) fun _ S3 =>
      jx_nx (jf_setI S3 0 11 (nI 0)) fun S4 =>
        jx_nx (nI 0) fun y5 =>
          jf_joined_h17 F F (x1, y5, S4)
noncomputable def jf_fence_b153 (F : Nat) (r82 : Int64 × Int32 × Int64 × Int64 × Int32 × jf_S → Option ((Int32 ⊕ Nat) × jf_S)) (x3 : Int64) (x5 : Int32) (x8 : Int64) (x10 : Int64) (x12 : Int32) (S : jf_S) : Option ((Int32 ⊕ Nat) × jf_S) :=
  jx_nx (x12 + nI 1) fun y1 =>
    r82 (x3, x5, x8, x10, y1, S)
noncomputable def jf_fence_L82 (F : Nat) (r82 : Int64 × Int32 × Int64 × Int64 × Int32 × jf_S → Option ((Int32 ⊕ Nat) × jf_S)) (x3 : Int64) (x5 : Int32) (x8 : Int64) (x10 : Int64) (x12 : Int32) (S : jf_S) : Option ((Int32 ⊕ Nat) × jf_S) :=
  if (S.1 3 13) ≤ x12 then
    some (.inl (-1 : Int32), S)
  else
    if (lg_cmp ((x8 >>> (x12.toInt64 &&& 63)) &&& (lN 1)) (lN 1)) = 0 then
      if (lg_cmp ((x10 >>> (x12.toInt64 &&& 63)) &&& (lN 1)) (lN 0)) = 0 then
        (jp_may F 3 3 1 x12 x5 S).bind fun q4 =>
          if (lg_cmp ((q4.1 &&& x10) &&& (x3 ^^^ (-1 : Int64))) (lN 0)) = 0 then
            jf_fence_b153 F r82 x3 x5 x8 x10 x12 q4.2
          else
            some (.inl x12, q4.2)
      else
        jf_fence_b153 F r82 x3 x5 x8 x10 x12 S
    else
      jf_fence_b153 F r82 x3 x5 x8 x10 x12 S
noncomputable def jf_fence_h82 (F : Nat) : Nat → Int64 × Int32 × Int64 × Int64 × Int32 × jf_S → Option ((Int32 ⊕ Nat) × jf_S) := jx_loop fun r (a : Int64 × Int32 × Int64 × Int64 × Int32 × jf_S) => jf_fence_L82 F r a.1 a.2.1 a.2.2.1 a.2.2.2.1 a.2.2.2.2.1 a.2.2.2.2.2
noncomputable def jf_fence_L57 (F : Nat) (r57 : Int32 × Int64 × Int32 × Int64 × Int64 × Int32 × jf_S → Option ((Int32 ⊕ Nat) × jf_S)) (x2 : Int32) (x3 : Int64) (x5 : Int32) (x8 : Int64) (x10 : Int64) (x12 : Int32) (S : jf_S) : Option ((Int32 ⊕ Nat) × jf_S) :=
  if x2 < x12 then
    jx_nx (nI 0) fun y2 =>
      jf_fence_h82 F F (x3, x5, x8, x10, y2, S)
  else
    (jf_bit x12).bind fun q3 =>
      jx_nx (x10 ||| q3) fun y4 =>
        jx_nx (x12 + nI 1) fun y5 =>
          r57 (x2, x3, x5, x8, y4, y5, S)
noncomputable def jf_fence_h57 (F : Nat) : Nat → Int32 × Int64 × Int32 × Int64 × Int64 × Int32 × jf_S → Option ((Int32 ⊕ Nat) × jf_S) := jx_loop fun r (a : Int32 × Int64 × Int32 × Int64 × Int64 × Int32 × jf_S) => jf_fence_L57 F r a.1 a.2.1 a.2.2.1 a.2.2.2.1 a.2.2.2.2.1 a.2.2.2.2.2.1 a.2.2.2.2.2.2
noncomputable def jf_fence_b30 (F : Nat) (x1 : Int32) (x2 : Int32) (x3 : Int64) (x5 : Int32) (k0 : Int32) (S : jf_S) : Option ((Int32 ⊕ Nat) × jf_S) :=
  jx_xb (jf_must F k0 S) fun _ S2 =>
    (jp_closed F 3 3 1 x5 S2).bind fun q3 =>
      jx_nx (q3.1) fun y4 =>
        jx_nx (lN 0) fun y5 =>
          jf_fence_h57 F F (x2, x3, x5, y4, y5, x1, q3.2)
noncomputable def jf_fence (F : Nat) (x1 : Int32) (x2 : Int32) (x3 : Int64) (x5 : Int32) (S : jf_S) : Option ((Int32 ⊕ Nat) × jf_S) :=
  jx_xb (jf_orderAt F x1 S) fun v1 S2 =>
    jx_xb (jf_orderAt F x2 S2) fun v3 S4 =>
      jx_xb (jf_isPower F x5 S4) fun _ S6 =>
        if x2 < x1 then
          jf_fence_b30 F x1 x2 x3 x5 (nI 0) S6
        else
          jf_fence_b30 F x1 x2 x3 x5 (nI 1) S6
noncomputable def jf_late (F : Nat) (x1 : Int32) (S : jf_S) : Option ((Int32 ⊕ Nat) × jf_S) :=
  (jf_isIn x1 (nI 1) (nI 20)).bind fun q1 =>
    jx_xb (jf_must F q1 S) fun _ S3 =>
      (jk_runs F (nI 1) (nI 0) S3).bind fun q4 =>
        if (q4.1 5 17) = (-1 : Int32) then
          some (.inl (-1 : Int32), q4)
        else
          jx_nx ((q4.1 5 17) + (nI 1)) fun y6 =>
            jx_gn x1 (  jx_nx ((((y6 + x1) - (nI 1)) / x1) * x1) fun y8 =>
                some (.inl ((if (q4.1 5 13) < y8 then (q4.1 5 13) else y8) - y6), q4))
noncomputable def jr_sign_b38 (F : Nat)  (S : jf_S) : Option (Int32 × jf_S) :=
  if (S.1 1 5) ≤ (S.1 1 6) then
    some ((-1 : Int32), S)
  else
    jx_ga (S.1 1 6) 400 fun j2 =>
      some ((S.2.2.1 1 0 j2) &&& (nI 255), S)
noncomputable def jr_sign_L0 (F : Nat) (r0 : jf_S → Option (Int32 × jf_S))  (S : jf_S) : Option (Int32 × jf_S) :=
  if (S.1 1 5) ≤ (S.1 1 6) then
    jr_sign_b38 F S
  else
    jx_ga (S.1 1 6) 400 fun j2 =>
      if (S.2.2.1 1 0 j2) = (nI 32) then
        jx_nx (jf_setI S 1 6 ((S.1 1 6) + (nI 1))) fun S4 =>
          r0 (S4)
      else
        jr_sign_b38 F S
noncomputable def jr_sign_h0 (F : Nat) : Nat → jf_S → Option (Int32 × jf_S) := jx_loop fun r (a : jf_S) => jr_sign_L0 F r a
noncomputable def jr_sign (F : Nat)  (S : jf_S) : Option (Int32 × jf_S) :=
  jr_sign_h0 F F (S)
noncomputable def jr_takes_b109 (F : Nat) (r69 : Nat × Int32 × Int32 × Int32 × jf_S → Option (Int32 × jf_S)) (x1 : Nat) (x3 : Int32) (x5 : Int32) (k0 : Int32) (S : jf_S) : Option (Int32 × jf_S) :=
  jx_nx (x5 + nI 1) fun y1 =>
    r69 (x1, x3, k0, y1, S)
noncomputable def jr_takes_b117 (F : Nat) (x3 : Int32) (x4 : Int32) (S : jf_S) : Option (Int32 × jf_S) :=
  if x4 = 0 then
    jx_gz x4 (some (x4, S))
  else
    jx_nx (jf_setI S 1 6 x3) fun S3 =>
      jx_gz x4 (some (x4, S3))
noncomputable def jr_takes_L69 (F : Nat) (r69 : Nat × Int32 × Int32 × Int32 × jf_S → Option (Int32 × jf_S)) (x1 : Nat) (x3 : Int32) (x4 : Int32) (x5 : Int32) (S : jf_S) : Option (Int32 × jf_S) :=
  jx_gs x1 <|
    if (nI (jx_sl x1)) ≤ x5 then
      jr_takes_b117 F x3 x4 S
    else
      if x4 = 0 then
        jr_takes_b117 F x3 x4 S
      else
        jx_ga ((S.1 1 6) + x5) 400 fun j4 =>
          jx_gs x1 <| jx_ga x5 (jx_sl x1) fun j6 =>
            if (S.2.2.1 1 0 j4) = (jx_sc x1 j6) then
              jr_takes_b109 F r69 x1 x3 x5 (nI 1) S
            else
              jr_takes_b109 F r69 x1 x3 x5 (nI 0) S
noncomputable def jr_takes_h69 (F : Nat) : Nat → Nat × Int32 × Int32 × Int32 × jf_S → Option (Int32 × jf_S) := jx_loop fun r (a : Nat × Int32 × Int32 × Int32 × jf_S) => jr_takes_L69 F r a.1 a.2.1 a.2.2.1 a.2.2.2.1 a.2.2.2.2
noncomputable def jr_takes_b64 (F : Nat) (x1 : Nat) (x3 : Int32) (k0 : Int32) (S : jf_S) : Option (Int32 × jf_S) :=
  jx_nx (nI 0) fun y1 =>
    jr_takes_h69 F F (x1, x3, k0, y1, S)
noncomputable def jr_takes_b46 (F : Nat) (x1 : Nat) (x3 : Int32) (S : jf_S) : Option (Int32 × jf_S) :=
  jx_gs x1 <|
    if (x3 - (S.1 1 6)) = (nI (jx_sl x1)) then
      jr_takes_b64 F x1 x3 (nI 1) S
    else
      jr_takes_b64 F x1 x3 (nI 0) S
noncomputable def jr_takes_L10 (F : Nat) (r10 : Nat × Int32 × jf_S → Option (Int32 × jf_S)) (x1 : Nat) (x3 : Int32) (S : jf_S) : Option (Int32 × jf_S) :=
  if (S.1 1 5) ≤ x3 then
    jr_takes_b46 F x1 x3 S
  else
    jx_ga x3 400 fun j2 =>
      if (S.2.2.1 1 0 j2) < (nI 97) then
        jr_takes_b46 F x1 x3 S
      else
        jx_ga x3 400 fun j4 =>
          if (nI 122) < (S.2.2.1 1 0 j4) then
            jr_takes_b46 F x1 x3 S
          else
            jx_nx (x3 + nI 1) fun y6 =>
              r10 (x1, y6, S)
noncomputable def jr_takes_h10 (F : Nat) : Nat → Nat × Int32 × jf_S → Option (Int32 × jf_S) := jx_loop fun r (a : Nat × Int32 × jf_S) => jr_takes_L10 F r a.1 a.2.1 a.2.2
noncomputable def jr_takes (F : Nat) (x1 : Nat) (S : jf_S) : Option (Int32 × jf_S) :=
  (jr_sign F S).bind fun q1 =>
    jx_nx (q1.1) fun y2 =>
      jx_nx (q1.2.1 1 6) fun y3 =>
        jr_takes_h10 F F (x1, y3, q1.2)
noncomputable def jr_fail (F : Nat) (x1 : Int32) (S : jf_S) : Option ((Unit ⊕ Nat) × jf_S) :=
  jx_nx (jf_setI S 2 6 x1) fun S1 =>
    some (.inr 16, S1)
noncomputable def jr_number_b67 (F : Nat) (r13 : Int32 × Int32 × Int32 × jf_S → Option ((Int32 ⊕ Nat) × jf_S)) (x1 : Int32) (x3 : Int32) (x4 : Int32) (S : jf_S) : Option ((Int32 ⊕ Nat) × jf_S) :=
  jx_ga (S.1 1 6) 400 fun j1 =>
    jx_nx ((((nI 10) * x4) + (S.2.2.1 1 0 j1)) - (nI 48)) fun y2 =>
      jx_nx (jf_setI S 1 6 ((S.1 1 6) + (nI 1))) fun S3 =>
        r13 (x1, x3, y2, S3)
noncomputable def jr_number_b114 (F : Nat) (x3 : Int32) (x4 : Int32) (S : jf_S) : Option ((Int32 ⊕ Nat) × jf_S) :=
  jx_xb (jr_fail F x3 S) fun _ S2 =>
    some (.inl x4, S2)
noncomputable def jr_number_b100 (F : Nat) (x1 : Int32) (x3 : Int32) (x4 : Int32) (S : jf_S) : Option ((Int32 ⊕ Nat) × jf_S) :=
  if (S.1 1 6) = x3 then
    jr_number_b114 F x3 x4 S
  else
    if x4 ≤ x1 then
      some (.inl x4, S)
    else
      jr_number_b114 F x3 x4 S
noncomputable def jr_number_L13 (F : Nat) (r13 : Int32 × Int32 × Int32 × jf_S → Option ((Int32 ⊕ Nat) × jf_S)) (x1 : Int32) (x3 : Int32) (x4 : Int32) (S : jf_S) : Option ((Int32 ⊕ Nat) × jf_S) :=
  if (S.1 1 5) ≤ (S.1 1 6) then
    jr_number_b100 F x1 x3 x4 S
  else
    jx_ga (S.1 1 6) 400 fun j2 =>
      if (S.2.2.1 1 0 j2) < (nI 48) then
        jr_number_b100 F x1 x3 x4 S
      else
        jx_ga (S.1 1 6) 400 fun j4 =>
          if (nI 57) < (S.2.2.1 1 0 j4) then
            jr_number_b100 F x1 x3 x4 S
          else
            if ((S.1 1 6) - x3) = (nI 3) then
              jx_xb (jr_fail F x3 S) fun _ S8 =>
                jr_number_b67 F r13 x1 x3 x4 S8
            else
              jr_number_b67 F r13 x1 x3 x4 S
noncomputable def jr_number_h13 (F : Nat) : Nat → Int32 × Int32 × Int32 × jf_S → Option ((Int32 ⊕ Nat) × jf_S) := jx_loop fun r (a : Int32 × Int32 × Int32 × jf_S) => jr_number_L13 F r a.1 a.2.1 a.2.2.1 a.2.2.2
noncomputable def jr_number (F : Nat) (x1 : Int32) (S : jf_S) : Option ((Int32 ⊕ Nat) × jf_S) :=
  (jr_sign F S).bind fun q1 =>
    jx_nx (q1.1) fun y2 =>
      jx_nx (q1.2.1 1 6) fun y3 =>
        jx_nx (nI 0) fun y4 =>
          jr_number_h13 F F (x1, y3, y4, q1.2)
noncomputable def jr_expect (F : Nat) (x1 : Nat) (S : jf_S) : Option ((Unit ⊕ Nat) × jf_S) :=
  (jr_takes F x1 S).bind fun q1 =>
    if q1.1 = 0 then
      jx_xb (jr_fail F (q1.2.1 1 6) q1.2) fun _ S4 =>
        some (.inl (), S4)
    else
      some (.inl (), q1.2)
noncomputable def jr_cell (F : Nat)  (S : jf_S) : Option ((Int32 ⊕ Nat) × jf_S) :=
  jx_xb (jr_expect F 11 S) fun _ S2 =>
    jx_xb (jr_number F (nI 15) S2) fun v3 S4 =>
      some (.inl v3, S4)
noncomputable def jr_place (F : Nat)  (S : jf_S) : Option ((Int32 ⊕ Nat) × jf_S) :=
  jx_xb (jr_number F (nI 39) S) fun v1 S2 =>
    some (.inl v1, S2)
noncomputable def jr_kind (F : Nat)  (S : jf_S) : Option ((Int32 ⊕ Nat) × jf_S) :=
  (jr_takes F 13 S).bind fun q1 =>
    if q1.1 = 0 then
      some (.inl (nI 0), q1.2)
    else
      jx_xb (jr_number F (nI 3) q1.2) fun v3 S4 =>
        some (.inl v3, S4)

set_option maxRecDepth 100000
noncomputable def jr_atom_b35 (F : Nat)  (S : jf_S) : Option ((Int32 ⊕ Nat) × jf_S) :=
  jx_xb (jr_cell F S) fun v2 S3 =>
    jx_gat (v2 + nI 1000) v2 (nI 0) fun t5 =>
      some (.inl t5, S3)
noncomputable def jr_atom (F : Nat)  (S : jf_S) : Option ((Int32 ⊕ Nat) × jf_S) :=
  (jr_sign F S).bind fun v1 =>
    jx_nx (v1.1) fun y3 =>
      if y3 < (nI 48) then
        jr_atom_b35 F v1.2
      else
        if (nI 57) < y3 then
          jr_atom_b35 F v1.2
        else
          jx_xb (jr_number F (nI 999) v1.2) fun v7 S8 =>
            jx_gat (v7) (-1 : Int32) v7 fun t10 =>
              some (.inl t10, S8)
noncomputable def jr_ifs_b36 (F : Nat) (x1 : Int32) (x2 : Int32) (x3 : Int32) (S : jf_S) : Option ((jo_R ⊕ Nat) × jf_S) :=
  jx_nx (jf_setI S 1 6 ((S.1 1 6) + (nI 1))) fun S1 =>
    jx_xb (jr_atom F S1) fun v2 S3 =>
      jx_xb (jr_expect F 2 S3) fun _ S8 =>
        jx_xb (jr_place F S8) fun v10 S11 =>
          jx_nx (jo_mk (nI 3) x1 (nI 0) (nI 0) v10 (nI 0) x2 v2 x3) fun t15 =>
            some (.inl t15, S11)
noncomputable def jr_ifs (F : Nat) (x1 : Int32) (S : jf_S) : Option ((jo_R ⊕ Nat) × jf_S) :=
  jx_xb (jr_atom F S) fun v1 S2 =>
    (jr_sign F S2).bind fun v5 =>
      jx_nx (v5.1) fun y7 =>
        if y7 = (nI 60) then
          jr_ifs_b36 F x1 v1 y7 v5.2
        else
          if y7 = (nI 62) then
            jr_ifs_b36 F x1 v1 y7 v5.2
          else
            if y7 = (nI 61) then
              jr_ifs_b36 F x1 v1 y7 v5.2
            else
              jx_xb (jr_fail F (v5.2.1 1 6) v5.2) fun _ S12 =>
                jr_ifs_b36 F x1 v1 y7 S12
noncomputable def jr_sets_b86 (F : Nat) (x1 : Int32) (x2 : Int32) (x3 : Int32) (x4 : Int32) (x5 : Int32) (S : jf_S) : Option ((jo_R ⊕ Nat) × jf_S) :=
  if x5 = 0 then
    if x5 = 0 then
      jx_ge (nI 0) 0 <| jx_nx (jo_mk (nI 0) x1 (nI 0) (nI 0) (-1 : Int32) x2 x3 (-1 : Int32) (nI 0)) fun t6 =>
        some (.inl t6, S)
    else
      jx_xb (jr_atom F S) fun v8 S9 =>
        jx_nx (jo_mk (nI 0) x1 (nI 0) (nI 0) (-1 : Int32) x2 x3 v8 (nI 0)) fun t16 =>
          some (.inl t16, S9)
  else
    if x5 = 0 then
      jx_ge x4 0 <| jx_nx (jo_mk (nI 0) x1 (nI 0) (nI 0) (-1 : Int32) x2 x3 (-1 : Int32) x4) fun t20 =>
        some (.inl t20, S)
    else
      jx_xb (jr_atom F S) fun v22 S23 =>
        jx_nx (jo_mk (nI 0) x1 (nI 0) (nI 0) (-1 : Int32) x2 x3 v22 x4) fun t30 =>
          some (.inl t30, S23)
noncomputable def jr_sets_b69 (F : Nat) (x1 : Int32) (x2 : Int32) (x3 : Int32) (x4 : Int32) (k0 : Int32) (S : jf_S) : Option ((jo_R ⊕ Nat) × jf_S) :=
  if k0 = 0 then
    jr_sets_b86 F x1 x2 x3 x4 k0 S
  else
    jx_nx (jf_setI S 1 6 ((S.1 1 6) + (nI 1))) fun S2 =>
      jr_sets_b86 F x1 x2 x3 x4 k0 S2
noncomputable def jr_sets_b64 (F : Nat) (x1 : Int32) (x2 : Int32) (x3 : Int32) (x4 : Int32) (S : jf_S) : Option ((jo_R ⊕ Nat) × jf_S) :=
  jr_sets_b69 F x1 x2 x3 x4 (nI 1) S
noncomputable def jr_sets_b22 (F : Nat) (x1 : Int32) (x2 : Int32) (S : jf_S) : Option ((jo_R ⊕ Nat) × jf_S) :=
  jx_nx (jf_setI S 1 6 ((S.1 1 6) + (nI 1))) fun S1 =>
    jx_xb (jr_atom F S1) fun v2 S3 =>
      (jr_sign F S3).bind fun v6 =>
        jx_nx (v6.1) fun y8 =>
          if y8 = (nI 43) then
            jr_sets_b64 F x1 x2 v2 y8 v6.2
          else
            if y8 = (nI 45) then
              jr_sets_b64 F x1 x2 v2 y8 v6.2
            else
              if y8 = (nI 42) then
                jr_sets_b64 F x1 x2 v2 y8 v6.2
              else
                jr_sets_b69 F x1 x2 v2 y8 (nI 0) v6.2
noncomputable def jr_sets (F : Nat) (x1 : Int32) (S : jf_S) : Option ((jo_R ⊕ Nat) × jf_S) :=
  jx_xb (jr_cell F S) fun v1 S2 =>
    (jr_sign F S2).bind fun v3 =>
      if v3.1 = (nI 61) then
        jr_sets_b22 F x1 v1 v3.2
      else
        jx_xb (jr_fail F (v3.2.1 1 6) v3.2) fun _ S7 =>
          jr_sets_b22 F x1 v1 S7
noncomputable def jr_order_b30 (F : Nat) (x1 : Int32) (x2 : Int32) (S : jf_S) : Option ((jo_R ⊕ Nat) × jf_S) :=
  if x2 = nI 0 then
    jx_xb (jr_sets F x1 S) fun v1 S2 =>
      some (.inl v1, S2)
  else
    if x2 = nI 1 then
      jx_xb (jr_cell F S) fun v5 S6 =>
        jx_xb (jr_expect F 12 S6) fun _ S8 =>
          jx_xb (jr_place F S8) fun v10 S11 =>
            jx_nx (jo_mk (nI 1) x1 (nI 0) (nI 0) v10 v5 (nI 0) (-1 : Int32) (nI 0)) fun t13 =>
              some (.inl t13, S11)
    else
      if x2 = nI 2 then
        jx_xb (jr_place F S) fun v15 S16 =>
          jx_nx (jo_mk (nI 2) x1 (nI 0) (nI 0) v15 (nI 0) (nI 0) (-1 : Int32) (nI 0)) fun t18 =>
            some (.inl t18, S16)
      else
        if x2 = nI 3 then
          jx_xb (jr_ifs F x1 S) fun v19 S20 =>
            some (.inl v19, S20)
        else
          if x2 = nI 4 then
            jx_xb (jr_cell F S) fun v23 S24 =>
              jx_xb (jr_kind F S24) fun v26 S27 =>
                jx_nx (jo_mk (nI 4) x1 (nI 0) v26 (-1 : Int32) v23 (nI 0) (-1 : Int32) (nI 0)) fun t29 =>
                  some (.inl t29, S27)
          else
            if x2 = nI 5 then
              jx_xb (jr_place F S) fun v31 S32 =>
                jx_nx (jo_mk (nI 5) x1 (nI 0) (nI 0) v31 (nI 0) (nI 0) (-1 : Int32) (nI 0)) fun t34 =>
                  some (.inl t34, S32)
            else
              if x2 = nI 6 then
                jx_xb (jr_cell F S) fun v35 S36 =>
                  jx_xb (jr_kind F S36) fun v38 S39 =>
                    jx_nx (jo_mk (nI 6) x1 (nI 0) v38 (-1 : Int32) v35 (nI 0) (-1 : Int32) (nI 0)) fun t41 =>
                      some (.inl t41, S39)
              else
                if x2 = nI 7 then
                  jx_nx (jo_mk (nI 7) x1 (nI 0) (nI 0) (-1 : Int32) (nI 0) (nI 0) (-1 : Int32) (nI 0)) fun t44 =>
                    some (.inl t44, S)
                else
                  if x2 = nI 8 then
                    jx_xb (jr_atom F S) fun v46 S47 =>
                      jx_nx (jo_mk (nI 8) x1 (nI 0) (nI 0) (-1 : Int32) (nI 0) v46 (-1 : Int32) (nI 0)) fun t51 =>
                        some (.inl t51, S47)
                  else
                    if x2 = nI 9 then
                      jx_nx (jo_mk (nI 9) x1 (nI 0) (nI 0) (-1 : Int32) (nI 0) (nI 0) (-1 : Int32) (nI 0)) fun t54 =>
                        some (.inl t54, S)
                    else
                      jx_xb (jr_fail F (S.1 1 6) S) fun _ S56 =>
                        none
noncomputable def jr_order_L2 (F : Nat) (r2 : Int32 × Int32 × jf_S → Option ((jo_R ⊕ Nat) × jf_S)) (x1 : Int32) (x2 : Int32) (S : jf_S) : Option ((jo_R ⊕ Nat) × jf_S) :=
  if (nI 10) ≤ x2 then
    jr_order_b30 F x1 x2 S
  else
    jx_ga x2 10 fun j2 =>
      (jr_takes F j2 S).bind fun v3 =>
        if v3.1 = 0 then
          jx_nx (x2 + nI 1) fun y6 =>
            r2 (x1, y6, v3.2)
        else
          jr_order_b30 F x1 x2 v3.2
noncomputable def jr_order_h2 (F : Nat) : Nat → Int32 × Int32 × jf_S → Option ((jo_R ⊕ Nat) × jf_S) := jx_loop fun r (a : Int32 × Int32 × jf_S) => jr_order_L2 F r a.1 a.2.1 a.2.2
noncomputable def jr_order (F : Nat) (x1 : Int32) (S : jf_S) : Option ((jo_R ⊕ Nat) × jf_S) :=
  jx_nx (nI 0) fun y1 =>
    jr_order_h2 F F (x1, y1, S)

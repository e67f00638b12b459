set_option maxRecDepth 100000
set_option maxHeartbeats 4000000
section
variable {p : Program} {l : Launch} {e : Env} {R : Room} {s : State} {m : MethodId} {args : Array Value} {below : List Frame} {meth : Method} {c : Code} {A : Nat → Prop} {D : va_G} {E : jf_E} {fo : Nat → Nat → Option Nat} {pl pl0 : va_W} {lv : Nat} {H : Heap} {locs : List Loc} {Q : State → Prop} {pc : Nat} {ls : Array Slot} {rest : List Value} {cc : ByteArray} {S : jf_S}
theorem jr_atom_g_X2 : GoodIn lw_all (wsV RX2 145 RX2 yX2_atom (ws_ yX2_atom cX2_atom 2 (some (.object "JumpFence$Atom")))) := lw_V q1034 q1036 qs23 q103 q1037
theorem jr_atom_d : yX2_atom.cls = RX2 ∧ yX2_atom.cls ≠ "java/lang/invoke/MethodHandle" ∧ yX2_atom.cls ≠ "java/lang/invoke/VarHandle" ∧ (parseMethodDescriptor yX2_atom.desc).map (fun d => d.parameters.length) = some 0 := by decide +kernel
theorem jr_atom_b35_ok {out : (Int32 ⊕ Nat) × jf_S} (hX : jr_Ok RX2 l p R s m args meth c A D E cX2_atom 2 (some (.object "JumpFence$Atom")) 8 8 40) (F : Nat) (hsub : jf_sub pl0 pl)  (S : jf_S) (h : jr_atom_b35 F  S = some out) : jr_J p l e R s m args below meth c A D E fo pl 2 0 0 (jr_Q jo_atom below args s A D E fo pl0 8 40 out) 35 [(0, .ref (E.1 1))] [] S := by
  intro H locs ls hP hS hl
  have hX0 := hX
  obtain ⟨⟨hx, hb, hml, hown, hts, hlk, hr, hlv, hV, het⟩, hfl, hmc, hms⟩ := hX0
  unfold jr_atom_b35 at h
  refine jf_newC (ci := 5) (fs := [.int 0, .int 0]) hx hb hts in_X7 tyX7_ok hown (hts _ q1038) (hts _ q1039) (hts _ q115) hV hP hS rfl (by decide) (Nat.le_trans (Nat.le_of_ble_eq_true rfl) hmc) (Nat.le_trans (Nat.le_of_ble_eq_true rfl) hms) dX2_atom_35 (fun a1 H hP hS => ?_)
  refine lv_dup hx hb dX2_atom_38 rfl ?_
  refine lv_aload_n hx hb dX2_atom_39 rfl (lv_at hl 0 rfl) ?_
  refine (jx_xb_some h).elim (fun gv2 => ?_) (fun gv2 => ?_)
  · obtain ⟨v2, S3, ev2, h⟩ := gv2
    refine jr_callI (out := (v2, S3)) hx hb hml hown hts hlv (jf_V_un hV) (jr_cell_met hfl ev2) jr_cell_g_X2 jr_cell_d (As := []) (Nat.le_of_ble_eq_true rfl) (Nat.le_of_ble_eq_true rfl) ⟨Nat.le_trans (Nat.le_of_ble_eq_true rfl) hmc, Nat.le_trans (Nat.le_of_ble_eq_true rfl) hms⟩ hP hS (ci := 2) jf_o1 rfl hl.1 rfl rfl (lv_room (Nat.le_of_ble_eq_true rfl)) dX2_atom_40 (fun H locs hP hS => ?_)
    refine lv_iconst hx hb dX2_atom_43 jx_ki0 ?_
    refine jf_initC (ci := 5) (n := 2) (fs1 := [.int v2, .int (nI 0)]) (As := [.int v2, .int (nI 0)]) hx hb hml hown hts hlv hV jc_X7_X7 q1040 q115 q1041 q1042 ⟨rfl, by decide +kernel⟩ (Nat.le_of_ble_eq_true rfl) (Nat.le_of_ble_eq_true rfl) hP hS ⟨Nat.le_trans (Nat.le_of_ble_eq_true rfl) hmc, Nat.le_trans (Nat.le_of_ble_eq_true rfl) hms⟩ hl.1 rfl rfl (lv_room (Nat.le_of_ble_eq_true rfl)) dX2_atom_44 (fun H locs hP hS => ?_)
    have k4 : jf_sub pl (pl ++ [(a1, (.inr (5, [.int v2, .int (nI 0)]) : va_E))]) := fun q hq => List.mem_append_left _ hq
    have hsub := jf_sub.add (d := [(a1, (.inr (5, [.int v2, .int (nI 0)]) : va_E))]) hsub
    obtain ⟨t5, ht5, h⟩ := jx_gat_some h
    have pt5 : jo_atom (pl ++ [(a1, (.inr (5, [.int v2, .int (nI 0)]) : va_E))]) a1 t5 := by unfold jo_atom; rw [ht5.1, ht5.2]; exact List.mem_append_right _ List.mem_cons_self
    refine jx_more (c1 := 8) (s1 := 40) (Nat.le_of_ble_eq_true rfl) (Nat.le_of_ble_eq_true rfl) ?_
    exact jr_ret hx hb hr hlk hV hP hS hsub pt5 h dX2_atom_47
  · obtain ⟨v2, S3, ev2, ho⟩ := gv2
    subst ho
    refine jx_more (c1 := 7) (s1 := 34) (Nat.le_of_ble_eq_true rfl) (Nat.le_of_ble_eq_true rfl) ?_
    exact jr_outV (E0 := E) (S1 := S3) (k := v2) hx hb hml hown hts hlv (jf_V_un hV) hV het hlk (jr_cell_met hfl ev2) jr_cell_g_X2 jr_cell_d (As := []) (Nat.le_of_ble_eq_true rfl) (Nat.le_of_ble_eq_true rfl) ⟨Nat.le_trans (Nat.le_of_ble_eq_true rfl) hmc, Nat.le_trans (Nat.le_of_ble_eq_true rfl) hms⟩ hsub (fun _ h => jf_P_un (h)) rfl hP hS (ci := 2) jf_o1 rfl hl.1 rfl rfl (lv_room (Nat.le_of_ble_eq_true rfl)) dX2_atom_40
theorem jr_atom_ok {out : (Int32 ⊕ Nat) × jf_S} (hX : jr_Ok RX2 l p R s m args meth c A D E cX2_atom 2 (some (.object "JumpFence$Atom")) 8 8 40) (F : Nat) (hsub : jf_sub pl0 pl)  (S : jf_S) (h : jr_atom F  S = some out) : jr_J p l e R s m args below meth c A D E fo pl 2 0 0 (jr_Q jo_atom below args s A D E fo pl0 8 40 out) 0 [(0, .ref (E.1 1))] [] S := by
  intro H locs ls hP hS hl
  have hX0 := hX
  obtain ⟨⟨hx, hb, hml, hown, hts, hlk, hr, hlv, hV, het⟩, hfl, hmc, hms⟩ := hX0
  unfold jr_atom at h
  refine lv_aload_n hx hb dX2_atom_0 rfl (lv_at hl 0 rfl) ?_
  obtain ⟨v1, ev1, h⟩ := jx_bi_some h
  refine jr_callI hx hb hml hown hts hlv hV (jr_sign_met ev1) jr_sign_g_X2 jr_sign_d (As := []) (Nat.le_of_ble_eq_true rfl) (Nat.le_of_ble_eq_true rfl) ⟨Nat.le_trans (Nat.le_of_ble_eq_true rfl) hmc, Nat.le_trans (Nat.le_of_ble_eq_true rfl) hms⟩ hP hS (ci := 2) jf_o1 rfl hl.1 rfl rfl (lv_room (Nat.le_of_ble_eq_true rfl)) dX2_atom_1 (fun H locs hP hS => ?_)
  obtain ⟨y3, ey3, h⟩ := jx_nx_some h
  refine jx_topi ey3 ?_
  refine lv_istore_n (lv' := [(1, .int y3), (0, .ref (E.1 1))]) hx hb dX2_atom_4 rfl hl (Nat.le_of_ble_eq_true rfl) rfl (fun ls hl => ?_)
  refine lv_iload_n hx hb dX2_atom_5 rfl (lv_at hl 0 rfl) ?_
  refine lv_bipush hx hb dX2_atom_6 jx_kb48 ?_
  refine lv_icmp_lt (tgt := 35) hx hb dX2_atom_8 rfl (fun c4 => ?_) (fun c4 => ?_)
  · rw [if_pos c4] at h
    exact jr_atom_b35_ok hX F hsub _ h _ _ _ hP hS (lv_sub hl [1] rfl)
  · rw [if_neg c4] at h
    refine lv_iload_n hx hb dX2_atom_11 rfl (lv_at hl 0 rfl) ?_
    refine lv_bipush hx hb dX2_atom_12 jx_kb57 ?_
    refine lv_icmp_gt (tgt := 35) hx hb dX2_atom_14 rfl (fun c5 => ?_) (fun c5 => ?_)
    · rw [if_pos c5] at h
      exact jr_atom_b35_ok hX F hsub _ h _ _ _ hP hS (lv_sub hl [1] rfl)
    · rw [if_neg c5] at h
      refine jf_newC (ci := 5) (fs := [.int 0, .int 0]) hx hb hts in_X7 tyX7_ok hown (hts _ q1038) (hts _ q1039) (hts _ q115) hV hP hS rfl (by decide) (Nat.le_trans (Nat.le_of_ble_eq_true rfl) hmc) (Nat.le_trans (Nat.le_of_ble_eq_true rfl) hms) dX2_atom_17 (fun a6 H hP hS => ?_)
      refine lv_dup hx hb dX2_atom_20 rfl ?_
      refine lv_iconst hx hb dX2_atom_21 jx_kim1 ?_
      refine lv_aload_n hx hb dX2_atom_22 rfl (lv_at hl 1 rfl) ?_
      refine lv_sipush hx hb dX2_atom_23 jx_ks999 ?_
      refine (jx_xb_some h).elim (fun gv7 => ?_) (fun gv7 => ?_)
      · obtain ⟨v7, S8, ev7, h⟩ := gv7
        refine jr_callI (out := (v7, S8)) hx hb hml hown hts hlv (jf_V_un hV) (jr_number_met hfl ev7) jr_number_g_X2 jr_number_d (As := [.int (nI 999)]) (Nat.le_of_ble_eq_true rfl) (Nat.le_of_ble_eq_true rfl) ⟨Nat.le_trans (Nat.le_of_ble_eq_true rfl) hmc, Nat.le_trans (Nat.le_of_ble_eq_true rfl) hms⟩ hP hS (ci := 2) jf_o1 rfl hl.1 rfl rfl (lv_room (Nat.le_of_ble_eq_true rfl)) dX2_atom_26 (fun H locs hP hS => ?_)
        refine jf_initC (ci := 5) (n := 2) (fs1 := [.int (-1 : Int32), .int v7]) (As := [.int (-1 : Int32), .int v7]) hx hb hml hown hts hlv hV jc_X7_X7 q1040 q115 q1041 q1042 ⟨rfl, by decide +kernel⟩ (Nat.le_of_ble_eq_true rfl) (Nat.le_of_ble_eq_true rfl) hP hS ⟨Nat.le_trans (Nat.le_of_ble_eq_true rfl) hmc, Nat.le_trans (Nat.le_of_ble_eq_true rfl) hms⟩ hl.1 rfl rfl (lv_room (Nat.le_of_ble_eq_true rfl)) dX2_atom_29 (fun H locs hP hS => ?_)
        have k9 : jf_sub pl (pl ++ [(a6, (.inr (5, [.int (-1 : Int32), .int v7]) : va_E))]) := fun q hq => List.mem_append_left _ hq
        have hsub := jf_sub.add (d := [(a6, (.inr (5, [.int (-1 : Int32), .int v7]) : va_E))]) hsub
        obtain ⟨t10, ht10, h⟩ := jx_gat_some h
        have pt10 : jo_atom (pl ++ [(a6, (.inr (5, [.int (-1 : Int32), .int v7]) : va_E))]) a6 t10 := by unfold jo_atom; rw [ht10.1, ht10.2]; exact List.mem_append_right _ List.mem_cons_self
        refine lv_goto (tgt := 47) hx hb dX2_atom_32 rfl ?_
        refine jx_more (c1 := 8) (s1 := 40) (Nat.le_of_ble_eq_true rfl) (Nat.le_of_ble_eq_true rfl) ?_
        exact jr_ret hx hb hr hlk hV hP hS hsub pt10 h dX2_atom_47
      · obtain ⟨v7, S8, ev7, ho⟩ := gv7
        subst ho
        refine jx_more (c1 := 7) (s1 := 34) (Nat.le_of_ble_eq_true rfl) (Nat.le_of_ble_eq_true rfl) ?_
        exact jr_outV (E0 := E) (S1 := S8) (k := v7) hx hb hml hown hts hlv (jf_V_un hV) hV het hlk (jr_number_met hfl ev7) jr_number_g_X2 jr_number_d (As := [.int (nI 999)]) (Nat.le_of_ble_eq_true rfl) (Nat.le_of_ble_eq_true rfl) ⟨Nat.le_trans (Nat.le_of_ble_eq_true rfl) hmc, Nat.le_trans (Nat.le_of_ble_eq_true rfl) hms⟩ hsub (fun _ h => jf_P_un (h)) rfl hP hS (ci := 2) jf_o1 rfl hl.1 rfl rfl (lv_room (Nat.le_of_ble_eq_true rfl)) dX2_atom_26
theorem jr_atom_met {l : Launch} {D : va_G} {E : jf_E} {A : Nat → Prop} {fo : Nat → Nat → Option Nat} {pl : va_W} {F : Nat} (hfl : l.flags = flags0)  {S : jf_S} {out : (Int32 ⊕ Nat) × jf_S} (h : jr_atom F  S = some out) : jr_M jo_atom l D E A fo pl yX2_atom cX2_atom 2 (some (.object "JumpFence$Atom")) 8 8 40 [.ref (E.1 1)] S out :=
  jr_M_of hfl (own := RX2) ⟨by decide, rfl, Nat.le_of_ble_eq_true rfl⟩ (fun hX => jr_atom_ok hX F jf_sub.rf  S h)
theorem jr_ifs_g_X2 : GoodIn lw_all (wsV RX2 124 RX2 yX2_ifs (ws_ yX2_ifs cX2_ifs 5 (some (.object "JumpFence$Order")))) := lw_V q1117 q1119 qs25 q103 q1120
theorem jr_ifs_d : yX2_ifs.cls = RX2 ∧ yX2_ifs.cls ≠ "java/lang/invoke/MethodHandle" ∧ yX2_ifs.cls ≠ "java/lang/invoke/VarHandle" ∧ (parseMethodDescriptor yX2_ifs.desc).map (fun d => d.parameters.length) = some 1 := by decide +kernel
theorem jr_ifs_b36_ok {out : (jo_R ⊕ Nat) × jf_S} (hX : jr_Ok RX2 l p R s m args meth c A D E cX2_ifs 5 (some (.object "JumpFence$Order")) 9 24 120) (F : Nat) (hsub : jf_sub pl0 pl) (x1 : Int32) (x2 : Int32) {x2a : Nat} (x2h : jo_atom pl x2a x2) (x3 : Int32) (S : jf_S) (h : jr_ifs_b36 F x1 x2 x3 S = some out) : jr_J p l e R s m args below meth c A D E fo pl 5 8 40 (jr_Q jo_Is below args s A D E fo pl0 24 120 out) 36 [(0, .ref (E.1 1)), (1, .int x1), (2, .ref x2a), (3, .int x3)] [] S := by
  intro H locs ls hP hS hl
  have hX0 := hX
  obtain ⟨⟨hx, hb, hml, hown, hts, hlk, hr, hlv, hV, het⟩, hfl, hmc, hms⟩ := hX0
  unfold jr_ifs_b36 at h
  refine lv_aload_n hx hb dX2_ifs_36 rfl (lv_at hl 0 rfl) ?_
  refine lv_dup hx hb dX2_ifs_37 rfl ?_
  refine jf_get hx hb hts in_X2 hown hV hP (ci := 2) (k := 6) jf_o1 rfl (by decide) (hts _ q248) rfl rfl dX2_ifs_38 ?_
  refine lv_iconst hx hb dX2_ifs_41 jx_ki1 ?_
  refine lv_iadd hx hb dX2_ifs_42 ?_
  obtain ⟨S1, eS1, h⟩ := jx_nx_some h
  refine jf_put (S1 := S1) hx hb hts in_X2 tyX2_ok nmX2 hown hV hP hS (ci := 2) (k := 6) (by rw [eS1]; rfl) jf_o1 (by rw [eS1]; exact jf_s1_6 _) rfl (by decide) (hts _ q248) rfl rfl (tyX2_ok 6 (by decide)) ⟨rfl, rfl⟩ (Nat.le_of_ble_eq_true rfl) dX2_ifs_43 (fun H locs hP hS => ?_)
  refine lv_aload_n hx hb dX2_ifs_46 rfl (lv_at hl 0 rfl) ?_
  refine (jx_xb_some h).elim (fun gv2 => ?_) (fun gv2 => ?_)
  · obtain ⟨v2, S3, ev2, h⟩ := gv2
    refine jr_callA (v := v2) (S1 := S3) hx hb hml hown hts hlv hV (jr_atom_met hfl ev2) jr_atom_g_X2 jr_atom_d (As := []) (Nat.le_of_ble_eq_true rfl) (Nat.le_of_ble_eq_true rfl) ⟨Nat.le_trans (Nat.le_of_ble_eq_true rfl) hmc, Nat.le_trans (Nat.le_of_ble_eq_true rfl) hms⟩ hP hS (ci := 2) jf_o1 rfl hl.1 rfl rfl (lv_room (Nat.le_of_ble_eq_true rfl)) dX2_ifs_47 (fun pl4 v2a H locs k5 v2h hP hS => ?_)
    have u6 := x2h.mono k5
    have hsub := jf_sub.trans hsub k5
    refine lv_astore (lv' := [(4, .ref v2a), (0, .ref (E.1 1)), (1, .int x1), (2, .ref x2a), (3, .int x3)]) hx hb dX2_ifs_50 hl (Nat.le_of_ble_eq_true rfl) rfl (fun ls hl => ?_)
    refine lv_aload_n hx hb dX2_ifs_52 rfl (lv_at hl 1 rfl) ?_
    refine jf_ldcS (i := 2) (ix := 21) (tx := "jump") hx hb hown hV (by decide) rfl rfl dX2_ifs_53 ?_
    refine (jx_xb_some h).elim (fun gv7 => ?_) (fun gv7 => ?_)
    · obtain ⟨v7, S8, ev7, h⟩ := gv7
      refine jr_callV (out := S8) hx hb hml hown hts hlv hV (jr_expect_met hfl ev7) jr_expect_g_X2 jr_expect_d (As := [.ref (E.2.2.2.1 2)]) (Nat.le_of_ble_eq_true rfl) (Nat.le_of_ble_eq_true rfl) ⟨Nat.le_trans (Nat.le_of_ble_eq_true rfl) hmc, Nat.le_trans (Nat.le_of_ble_eq_true rfl) hms⟩ hP hS (ci := 2) jf_o1 rfl hl.1 rfl rfl (lv_room (Nat.le_of_ble_eq_true rfl)) dX2_ifs_55 (fun H locs hP hS => ?_)
      refine jf_newC (ci := 9) (fs := [.int 0, .null, .null, .int 0, .int 0]) hx hb hts in_X12 tyX12_ok hown (hts _ q1121) (hts _ q1122) (hts _ q120) hV hP hS rfl (by decide) (Nat.le_trans (Nat.le_of_ble_eq_true rfl) hmc) (Nat.le_trans (Nat.le_of_ble_eq_true rfl) hms) dX2_ifs_58 (fun a9 H hP hS => ?_)
      refine lv_dup hx hb dX2_ifs_61 rfl ?_
      refine lv_iload_n hx hb dX2_ifs_62 rfl (lv_at hl 2 rfl) ?_
      refine lv_aload_n hx hb dX2_ifs_63 rfl (lv_at hl 3 rfl) ?_
      refine lv_iload_n hx hb dX2_ifs_64 rfl (lv_at hl 4 rfl) ?_
      refine lv_aload hx hb dX2_ifs_65 (lv_at hl 0 rfl) ?_
      refine lv_aload_n hx hb dX2_ifs_67 rfl (lv_at hl 1 rfl) ?_
      refine (jx_xb_some h).elim (fun gv10 => ?_) (fun gv10 => ?_)
      · obtain ⟨v10, S11, ev10, h⟩ := gv10
        refine jr_callI (out := (v10, S11)) hx hb hml hown hts hlv (jf_V_un hV) (jr_place_met hfl ev10) jr_place_g_X2 jr_place_d (As := []) (Nat.le_of_ble_eq_true rfl) (Nat.le_of_ble_eq_true rfl) ⟨Nat.le_trans (Nat.le_of_ble_eq_true rfl) hmc, Nat.le_trans (Nat.le_of_ble_eq_true rfl) hms⟩ hP hS (ci := 2) jf_o1 rfl hl.1 rfl rfl (lv_room (Nat.le_of_ble_eq_true rfl)) dX2_ifs_68 (fun H locs hP hS => ?_)
        refine jf_initC (ci := 9) (n := 5) (fs1 := [.int x1, .ref x2a, .ref v2a, .int x3, .int v10]) (As := [.int x1, .ref x2a, .int x3, .ref v2a, .int v10]) hx hb hml hown hts hlv hV jc_X12_X12 q1123 q120 q1124 q1125 ⟨rfl, by decide +kernel⟩ (Nat.le_of_ble_eq_true rfl) (Nat.le_of_ble_eq_true rfl) hP hS ⟨Nat.le_trans (Nat.le_of_ble_eq_true rfl) hmc, Nat.le_trans (Nat.le_of_ble_eq_true rfl) hms⟩ hl.1 rfl rfl (lv_room (Nat.le_of_ble_eq_true rfl)) dX2_ifs_71 (fun H locs hP hS => ?_)
        have k12 : jf_sub pl4 (pl4 ++ [(a9, (.inr (9, [.int x1, .ref x2a, .ref v2a, .int x3, .int v10]) : va_E))]) := fun q hq => List.mem_append_left _ hq
        have u13 := u6.mono k12
        have u14 := v2h.mono k12
        have hsub := jf_sub.add (d := [(a9, (.inr (9, [.int x1, .ref x2a, .ref v2a, .int x3, .int v10]) : va_E))]) hsub
        obtain ⟨t15, et15, h⟩ := jx_nx_some h
        have pt15 : jo_Is (pl4 ++ [(a9, (.inr (9, [.int x1, .ref x2a, .ref v2a, .int x3, .int v10]) : va_E))]) a9 t15 := by rw [et15]; exact Or.inr (Or.inr (Or.inr (Or.inl ⟨rfl, x2a, v2a, List.mem_append_right _ List.mem_cons_self, (u6.mono k12), (v2h.mono k12)⟩)))
        refine jx_more (c1 := 24) (s1 := 120) (Nat.le_of_ble_eq_true rfl) (Nat.le_of_ble_eq_true rfl) ?_
        exact jr_ret hx hb hr hlk hV hP hS hsub pt15 h dX2_ifs_74
      · obtain ⟨v10, S11, ev10, ho⟩ := gv10
        subst ho
        refine jx_more (c1 := 23) (s1 := 114) (Nat.le_of_ble_eq_true rfl) (Nat.le_of_ble_eq_true rfl) ?_
        exact jr_outV (E0 := E) (S1 := S11) (k := v10) hx hb hml hown hts hlv (jf_V_un hV) hV het hlk (jr_place_met hfl ev10) jr_place_g_X2 jr_place_d (As := []) (Nat.le_of_ble_eq_true rfl) (Nat.le_of_ble_eq_true rfl) ⟨Nat.le_trans (Nat.le_of_ble_eq_true rfl) hmc, Nat.le_trans (Nat.le_of_ble_eq_true rfl) hms⟩ hsub (fun _ h => jf_P_un (h)) rfl hP hS (ci := 2) jf_o1 rfl hl.1 rfl rfl (lv_room (Nat.le_of_ble_eq_true rfl)) dX2_ifs_68
    · obtain ⟨v7, S8, ev7, ho⟩ := gv7
      subst ho
      refine jx_more (c1 := 23) (s1 := 114) (Nat.le_of_ble_eq_true rfl) (Nat.le_of_ble_eq_true rfl) ?_
      exact jr_outV (E0 := E) (S1 := S8) (k := v7) hx hb hml hown hts hlv hV hV het hlk (jr_expect_met hfl ev7) jr_expect_g_X2 jr_expect_d (As := [.ref (E.2.2.2.1 2)]) (Nat.le_of_ble_eq_true rfl) (Nat.le_of_ble_eq_true rfl) ⟨Nat.le_trans (Nat.le_of_ble_eq_true rfl) hmc, Nat.le_trans (Nat.le_of_ble_eq_true rfl) hms⟩ hsub (fun _ h => h) rfl hP hS (ci := 2) jf_o1 rfl hl.1 rfl rfl (lv_room (Nat.le_of_ble_eq_true rfl)) dX2_ifs_55
  · obtain ⟨v2, S3, ev2, ho⟩ := gv2
    subst ho
    refine jx_more (c1 := 16) (s1 := 80) (Nat.le_of_ble_eq_true rfl) (Nat.le_of_ble_eq_true rfl) ?_
    exact jr_outA (E0 := E) (S1 := S3) (k := v2) hx hb hml hown hts hlv hV hV het hlk (jr_atom_met hfl ev2) jr_atom_g_X2 jr_atom_d (As := []) (Nat.le_of_ble_eq_true rfl) (Nat.le_of_ble_eq_true rfl) ⟨Nat.le_trans (Nat.le_of_ble_eq_true rfl) hmc, Nat.le_trans (Nat.le_of_ble_eq_true rfl) hms⟩ hsub (fun _ _ h => h) rfl hP hS (ci := 2) jf_o1 rfl hl.1 rfl rfl (lv_room (Nat.le_of_ble_eq_true rfl)) dX2_ifs_47
theorem jr_ifs_ok {out : (jo_R ⊕ Nat) × jf_S} (hX : jr_Ok RX2 l p R s m args meth c A D E cX2_ifs 5 (some (.object "JumpFence$Order")) 9 24 120) (F : Nat) (hsub : jf_sub pl0 pl) (x1 : Int32) (S : jf_S) (h : jr_ifs F x1 S = some out) : jr_J p l e R s m args below meth c A D E fo pl 5 0 0 (jr_Q jo_Is below args s A D E fo pl0 24 120 out) 0 [(0, .ref (E.1 1)), (1, .int x1)] [] S := by
  intro H locs ls hP hS hl
  have hX0 := hX
  obtain ⟨⟨hx, hb, hml, hown, hts, hlk, hr, hlv, hV, het⟩, hfl, hmc, hms⟩ := hX0
  unfold jr_ifs at h
  refine lv_aload_n hx hb dX2_ifs_0 rfl (lv_at hl 0 rfl) ?_
  refine (jx_xb_some h).elim (fun gv1 => ?_) (fun gv1 => ?_)
  · obtain ⟨v1, S2, ev1, h⟩ := gv1
    refine jr_callA (v := v1) (S1 := S2) hx hb hml hown hts hlv hV (jr_atom_met hfl ev1) jr_atom_g_X2 jr_atom_d (As := []) (Nat.le_of_ble_eq_true rfl) (Nat.le_of_ble_eq_true rfl) ⟨Nat.le_trans (Nat.le_of_ble_eq_true rfl) hmc, Nat.le_trans (Nat.le_of_ble_eq_true rfl) hms⟩ hP hS (ci := 2) jf_o1 rfl hl.1 rfl rfl (lv_room (Nat.le_of_ble_eq_true rfl)) dX2_ifs_1 (fun pl3 v1a H locs k4 v1h hP hS => ?_)
    have hsub := jf_sub.trans hsub k4
    refine lv_astore_n (lv' := [(2, .ref v1a), (0, .ref (E.1 1)), (1, .int x1)]) hx hb dX2_ifs_4 rfl hl (Nat.le_of_ble_eq_true rfl) rfl (fun ls hl => ?_)
    refine lv_aload_n hx hb dX2_ifs_5 rfl (lv_at hl 1 rfl) ?_
    obtain ⟨v5, ev5, h⟩ := jx_bi_some h
    refine jr_callI hx hb hml hown hts hlv hV (jr_sign_met ev5) jr_sign_g_X2 jr_sign_d (As := []) (Nat.le_of_ble_eq_true rfl) (Nat.le_of_ble_eq_true rfl) ⟨Nat.le_trans (Nat.le_of_ble_eq_true rfl) hmc, Nat.le_trans (Nat.le_of_ble_eq_true rfl) hms⟩ hP hS (ci := 2) jf_o1 rfl hl.1 rfl rfl (lv_room (Nat.le_of_ble_eq_true rfl)) dX2_ifs_6 (fun H locs hP hS => ?_)
    obtain ⟨y7, ey7, h⟩ := jx_nx_some h
    refine jx_topi ey7 ?_
    refine lv_istore_n (lv' := [(3, .int y7), (2, .ref v1a), (0, .ref (E.1 1)), (1, .int x1)]) hx hb dX2_ifs_9 rfl hl (Nat.le_of_ble_eq_true rfl) rfl (fun ls hl => ?_)
    refine lv_iload_n hx hb dX2_ifs_10 rfl (lv_at hl 0 rfl) ?_
    refine lv_bipush hx hb dX2_ifs_11 jx_kb60 ?_
    refine lv_icmp_eq (tgt := 36) hx hb dX2_ifs_13 rfl (fun c8 => ?_) (fun c8 => ?_)
    · rw [if_pos c8] at h
      exact jr_ifs_b36_ok hX F hsub _ _ v1h _ _ h _ _ _ hP hS (lv_sub hl [2, 3, 1, 0] rfl)
    · rw [if_neg c8] at h
      refine lv_iload_n hx hb dX2_ifs_16 rfl (lv_at hl 0 rfl) ?_
      refine lv_bipush hx hb dX2_ifs_17 jx_kb62 ?_
      refine lv_icmp_eq (tgt := 36) hx hb dX2_ifs_19 rfl (fun c9 => ?_) (fun c9 => ?_)
      · rw [if_pos c9] at h
        exact jr_ifs_b36_ok hX F hsub _ _ v1h _ _ h _ _ _ hP hS (lv_sub hl [2, 3, 1, 0] rfl)
      · rw [if_neg c9] at h
        refine lv_iload_n hx hb dX2_ifs_22 rfl (lv_at hl 0 rfl) ?_
        refine lv_bipush hx hb dX2_ifs_23 jx_kb61 ?_
        refine lv_icmp_eq (tgt := 36) hx hb dX2_ifs_25 rfl (fun c10 => ?_) (fun c10 => ?_)
        · rw [if_pos c10] at h
          exact jr_ifs_b36_ok hX F hsub _ _ v1h _ _ h _ _ _ hP hS (lv_sub hl [2, 3, 1, 0] rfl)
        · rw [if_neg c10] at h
          refine lv_aload_n hx hb dX2_ifs_28 rfl (lv_at hl 2 rfl) ?_
          refine lv_aload_n hx hb dX2_ifs_29 rfl (lv_at hl 2 rfl) ?_
          refine jf_get hx hb hts in_X2 hown hV hP (ci := 2) (k := 6) jf_o1 rfl (by decide) (hts _ q248) rfl rfl dX2_ifs_30 ?_
          refine (jx_xb_some h).elim (fun gv11 => ?_) (fun gv11 => ?_)
          · obtain ⟨v11, S12, ev11, h⟩ := gv11
            refine jr_callV (out := S12) hx hb hml hown hts hlv hV (jr_fail_met hfl ev11) jr_fail_g_X2 jr_fail_d (As := [.int (v5.2.1 1 6)]) (Nat.le_of_ble_eq_true rfl) (Nat.le_of_ble_eq_true rfl) ⟨Nat.le_trans (Nat.le_of_ble_eq_true rfl) hmc, Nat.le_trans (Nat.le_of_ble_eq_true rfl) hms⟩ hP hS (ci := 2) jf_o1 rfl hl.1 rfl rfl (lv_room (Nat.le_of_ble_eq_true rfl)) dX2_ifs_33 (fun H locs hP hS => ?_)
            exact jr_ifs_b36_ok hX F hsub _ _ v1h _ _ h _ _ _ hP hS (lv_sub hl [2, 3, 1, 0] rfl)
          · obtain ⟨v11, S12, ev11, ho⟩ := gv11
            subst ho
            refine jx_more (c1 := 23) (s1 := 114) (Nat.le_of_ble_eq_true rfl) (Nat.le_of_ble_eq_true rfl) ?_
            exact jr_outV (E0 := E) (S1 := S12) (k := v11) hx hb hml hown hts hlv hV hV het hlk (jr_fail_met hfl ev11) jr_fail_g_X2 jr_fail_d (As := [.int (v5.2.1 1 6)]) (Nat.le_of_ble_eq_true rfl) (Nat.le_of_ble_eq_true rfl) ⟨Nat.le_trans (Nat.le_of_ble_eq_true rfl) hmc, Nat.le_trans (Nat.le_of_ble_eq_true rfl) hms⟩ hsub (fun _ h => h) rfl hP hS (ci := 2) jf_o1 rfl hl.1 rfl rfl (lv_room (Nat.le_of_ble_eq_true rfl)) dX2_ifs_33
  · obtain ⟨v1, S2, ev1, ho⟩ := gv1
    subst ho
    refine jx_more (c1 := 16) (s1 := 80) (Nat.le_of_ble_eq_true rfl) (Nat.le_of_ble_eq_true rfl) ?_
    exact jr_outA (E0 := E) (S1 := S2) (k := v1) hx hb hml hown hts hlv hV hV het hlk (jr_atom_met hfl ev1) jr_atom_g_X2 jr_atom_d (As := []) (Nat.le_of_ble_eq_true rfl) (Nat.le_of_ble_eq_true rfl) ⟨Nat.le_trans (Nat.le_of_ble_eq_true rfl) hmc, Nat.le_trans (Nat.le_of_ble_eq_true rfl) hms⟩ hsub (fun _ _ h => h) rfl hP hS (ci := 2) jf_o1 rfl hl.1 rfl rfl (lv_room (Nat.le_of_ble_eq_true rfl)) dX2_ifs_1
theorem jr_ifs_met {l : Launch} {D : va_G} {E : jf_E} {A : Nat → Prop} {fo : Nat → Nat → Option Nat} {pl : va_W} {F : Nat} (hfl : l.flags = flags0) {x1 : Int32} {S : jf_S} {out : (jo_R ⊕ Nat) × jf_S} (h : jr_ifs F x1 S = some out) : jr_M jo_Is l D E A fo pl yX2_ifs cX2_ifs 5 (some (.object "JumpFence$Order")) 9 24 120 [.ref (E.1 1), .int x1] S out :=
  jr_M_of hfl (own := RX2) ⟨by decide, rfl, Nat.le_of_ble_eq_true rfl⟩ (fun hX => jr_ifs_ok hX F jf_sub.rf x1 S h)
theorem jr_sets_g_X2 : GoodIn lw_all (wsV RX2 110 RX2 yX2_sets (ws_ yX2_sets cX2_sets 6 (some (.object "JumpFence$Order")))) := lw_V q1021 q1023 qs20 q103 q1024
theorem jr_sets_d : yX2_sets.cls = RX2 ∧ yX2_sets.cls ≠ "java/lang/invoke/MethodHandle" ∧ yX2_sets.cls ≠ "java/lang/invoke/VarHandle" ∧ (parseMethodDescriptor yX2_sets.desc).map (fun d => d.parameters.length) = some 1 := by decide +kernel
theorem jr_sets_b86_ok {out : (jo_R ⊕ Nat) × jf_S} (hX : jr_Ok RX2 l p R s m args meth c A D E cX2_sets 6 (some (.object "JumpFence$Order")) 9 24 120) (F : Nat) (hsub : jf_sub pl0 pl) (x1 : Int32) (x2 : Int32) (x3 : Int32) {x3a : Nat} (x3h : jo_atom pl x3a x3) (x4 : Int32) (x5 : Int32) (S : jf_S) (h : jr_sets_b86 F x1 x2 x3 x4 x5 S = some out) : jr_J p l e R s m args below meth c A D E fo pl 6 8 40 (jr_Q jo_Is below args s A D E fo pl0 24 120 out) 86 [(0, .ref (E.1 1)), (1, .int x1), (2, .int x2), (3, .ref x3a), (4, .int x4), (5, .int x5)] [] S := by
  intro H locs ls hP hS hl
  have hX0 := hX
  obtain ⟨⟨hx, hb, hml, hown, hts, hlk, hr, hlv, hV, het⟩, hfl, hmc, hms⟩ := hX0
  unfold jr_sets_b86 at h
  refine jf_newC (ci := 6) (fs := [.int 0, .int 0, .int 0, .null, .null]) hx hb hts in_X9 tyX9_ok hown (hts _ q1057) (hts _ q1058) (hts _ q117) hV hP hS rfl (by decide) (Nat.le_trans (Nat.le_of_ble_eq_true rfl) hmc) (Nat.le_trans (Nat.le_of_ble_eq_true rfl) hms) dX2_sets_86 (fun a1 H hP hS => ?_)
  refine lv_dup hx hb dX2_sets_89 rfl ?_
  refine lv_iload_n hx hb dX2_sets_90 rfl (lv_at hl 1 rfl) ?_
  refine lv_iload_n hx hb dX2_sets_91 rfl (lv_at hl 2 rfl) ?_
  refine lv_aload_n hx hb dX2_sets_92 rfl (lv_at hl 3 rfl) ?_
  refine lv_iload hx hb dX2_sets_93 (lv_at hl 5 rfl) ?_
  refine lv_if_eq (tgt := 103) hx hb dX2_sets_95 rfl (fun c2 => ?_) (fun c2 => ?_)
  · rw [if_pos c2] at h
    refine lv_iconst hx hb dX2_sets_103 jx_ki0 ?_
    refine lv_iload hx hb dX2_sets_104 (lv_at hl 5 rfl) ?_
    refine lv_if_eq (tgt := 116) hx hb dX2_sets_106 rfl (fun c3 => ?_) (fun c3 => ?_)
    · rw [if_pos c3] at h
      refine lv_null hx hb dX2_sets_116 ?_
      refine jf_initC (ci := 6) (n := 5) (fs1 := [.int x1, .int x2, .int (nI 0), .ref x3a, .null]) (As := [.int x1, .int x2, .ref x3a, .int (nI 0), .null]) hx hb hml hown hts hlv hV jc_X9_X9N q1059 q117 q1060 q1061 ⟨rfl, by decide +kernel⟩ (Nat.le_of_ble_eq_true rfl) (Nat.le_of_ble_eq_true rfl) hP hS ⟨Nat.le_trans (Nat.le_of_ble_eq_true rfl) hmc, Nat.le_trans (Nat.le_of_ble_eq_true rfl) hms⟩ hl.1 rfl rfl (lv_room (Nat.le_of_ble_eq_true rfl)) dX2_sets_117 (fun H locs hP hS => ?_)
      have k4 : jf_sub pl (pl ++ [(a1, (.inr (6, [.int x1, .int x2, .int (nI 0), .ref x3a, .null]) : va_E))]) := fun q hq => List.mem_append_left _ hq
      have u5 := x3h.mono k4
      have hsub := jf_sub.add (d := [(a1, (.inr (6, [.int x1, .int x2, .int (nI 0), .ref x3a, .null]) : va_E))]) hsub
      obtain ⟨z7, h⟩ := jx_ge_some h
      obtain ⟨t6, et6, h⟩ := jx_nx_some h
      have pt6 : jo_Is (pl ++ [(a1, (.inr (6, [.int x1, .int x2, .int (nI 0), .ref x3a, .null]) : va_E))]) a1 t6 := by rw [et6]; exact Or.inl ⟨rfl, x3a, _, List.mem_append_right _ List.mem_cons_self, (x3h.mono k4), fun n => absurd z7 n⟩
      refine jx_more (c1 := 24) (s1 := 120) (Nat.le_of_ble_eq_true rfl) (Nat.le_of_ble_eq_true rfl) ?_
      exact jr_ret hx hb hr hlk hV hP hS hsub pt6 h dX2_sets_120
    · rw [if_neg c3] at h
      refine lv_aload_n hx hb dX2_sets_109 rfl (lv_at hl 0 rfl) ?_
      refine (jx_xb_some h).elim (fun gv8 => ?_) (fun gv8 => ?_)
      · obtain ⟨v8, S9, ev8, h⟩ := gv8
        refine jr_callA (v := v8) (S1 := S9) hx hb hml hown hts hlv (jf_V_un hV) (jr_atom_met hfl ev8) jr_atom_g_X2 jr_atom_d (As := []) (Nat.le_of_ble_eq_true rfl) (Nat.le_of_ble_eq_true rfl) ⟨Nat.le_trans (Nat.le_of_ble_eq_true rfl) hmc, Nat.le_trans (Nat.le_of_ble_eq_true rfl) hms⟩ hP hS (ci := 2) jf_o1 rfl hl.1 rfl rfl (lv_room (Nat.le_of_ble_eq_true rfl)) dX2_sets_110 (fun pl10 v8a H locs k11 v8h hP hS => ?_)
        have u12 := x3h.mono k11
        have u13 := x3h.mono k11
        have hsub := jf_sub.trans hsub k11
        refine lv_goto (tgt := 117) hx hb dX2_sets_113 rfl ?_
        refine jf_initC (ci := 6) (n := 5) (fs1 := [.int x1, .int x2, .int (nI 0), .ref x3a, .ref v8a]) (As := [.int x1, .int x2, .ref x3a, .int (nI 0), .ref v8a]) hx hb hml hown hts hlv hV jc_X9_X9 q1059 q117 q1060 q1061 ⟨rfl, by decide +kernel⟩ (Nat.le_of_ble_eq_true rfl) (Nat.le_of_ble_eq_true rfl) hP hS ⟨Nat.le_trans (Nat.le_of_ble_eq_true rfl) hmc, Nat.le_trans (Nat.le_of_ble_eq_true rfl) hms⟩ hl.1 rfl rfl (lv_room (Nat.le_of_ble_eq_true rfl)) dX2_sets_117 (fun H locs hP hS => ?_)
        have k14 : jf_sub pl10 (pl10 ++ [(a1, (.inr (6, [.int x1, .int x2, .int (nI 0), .ref x3a, .ref v8a]) : va_E))]) := fun q hq => List.mem_append_left _ hq
        have u15 := u13.mono k14
        have hsub := jf_sub.add (d := [(a1, (.inr (6, [.int x1, .int x2, .int (nI 0), .ref x3a, .ref v8a]) : va_E))]) hsub
        obtain ⟨t16, et16, h⟩ := jx_nx_some h
        have pt16 : jo_Is (pl10 ++ [(a1, (.inr (6, [.int x1, .int x2, .int (nI 0), .ref x3a, .ref v8a]) : va_E))]) a1 t16 := by rw [et16]; exact Or.inl ⟨rfl, x3a, _, List.mem_append_right _ List.mem_cons_self, (u12.mono k14), fun _ => ⟨v8a, rfl, (v8h.mono k14)⟩⟩
        refine jx_more (c1 := 24) (s1 := 120) (Nat.le_of_ble_eq_true rfl) (Nat.le_of_ble_eq_true rfl) ?_
        exact jr_ret hx hb hr hlk hV hP hS hsub pt16 h dX2_sets_120
      · obtain ⟨v8, S9, ev8, ho⟩ := gv8
        subst ho
        refine jx_more (c1 := 16) (s1 := 80) (Nat.le_of_ble_eq_true rfl) (Nat.le_of_ble_eq_true rfl) ?_
        exact jr_outA (E0 := E) (S1 := S9) (k := v8) hx hb hml hown hts hlv (jf_V_un hV) hV het hlk (jr_atom_met hfl ev8) jr_atom_g_X2 jr_atom_d (As := []) (Nat.le_of_ble_eq_true rfl) (Nat.le_of_ble_eq_true rfl) ⟨Nat.le_trans (Nat.le_of_ble_eq_true rfl) hmc, Nat.le_trans (Nat.le_of_ble_eq_true rfl) hms⟩ hsub (fun _ _ h => jf_P_un (h)) rfl hP hS (ci := 2) jf_o1 rfl hl.1 rfl rfl (lv_room (Nat.le_of_ble_eq_true rfl)) dX2_sets_110
  · rw [if_neg c2] at h
    refine lv_iload hx hb dX2_sets_98 (lv_at hl 4 rfl) ?_
    refine lv_goto (tgt := 104) hx hb dX2_sets_100 rfl ?_
    refine lv_iload hx hb dX2_sets_104 (lv_at hl 5 rfl) ?_
    refine lv_if_eq (tgt := 116) hx hb dX2_sets_106 rfl (fun c17 => ?_) (fun c17 => ?_)
    · rw [if_pos c17] at h
      refine lv_null hx hb dX2_sets_116 ?_
      refine jf_initC (ci := 6) (n := 5) (fs1 := [.int x1, .int x2, .int x4, .ref x3a, .null]) (As := [.int x1, .int x2, .ref x3a, .int x4, .null]) hx hb hml hown hts hlv hV jc_X9_X9N q1059 q117 q1060 q1061 ⟨rfl, by decide +kernel⟩ (Nat.le_of_ble_eq_true rfl) (Nat.le_of_ble_eq_true rfl) hP hS ⟨Nat.le_trans (Nat.le_of_ble_eq_true rfl) hmc, Nat.le_trans (Nat.le_of_ble_eq_true rfl) hms⟩ hl.1 rfl rfl (lv_room (Nat.le_of_ble_eq_true rfl)) dX2_sets_117 (fun H locs hP hS => ?_)
      have k18 : jf_sub pl (pl ++ [(a1, (.inr (6, [.int x1, .int x2, .int x4, .ref x3a, .null]) : va_E))]) := fun q hq => List.mem_append_left _ hq
      have u19 := x3h.mono k18
      have hsub := jf_sub.add (d := [(a1, (.inr (6, [.int x1, .int x2, .int x4, .ref x3a, .null]) : va_E))]) hsub
      obtain ⟨z21, h⟩ := jx_ge_some h
      obtain ⟨t20, et20, h⟩ := jx_nx_some h
      have pt20 : jo_Is (pl ++ [(a1, (.inr (6, [.int x1, .int x2, .int x4, .ref x3a, .null]) : va_E))]) a1 t20 := by rw [et20]; exact Or.inl ⟨rfl, x3a, _, List.mem_append_right _ List.mem_cons_self, (x3h.mono k18), fun n => absurd z21 n⟩
      refine jx_more (c1 := 24) (s1 := 120) (Nat.le_of_ble_eq_true rfl) (Nat.le_of_ble_eq_true rfl) ?_
      exact jr_ret hx hb hr hlk hV hP hS hsub pt20 h dX2_sets_120
    · rw [if_neg c17] at h
      refine lv_aload_n hx hb dX2_sets_109 rfl (lv_at hl 0 rfl) ?_
      refine (jx_xb_some h).elim (fun gv22 => ?_) (fun gv22 => ?_)
      · obtain ⟨v22, S23, ev22, h⟩ := gv22
        refine jr_callA (v := v22) (S1 := S23) hx hb hml hown hts hlv (jf_V_un hV) (jr_atom_met hfl ev22) jr_atom_g_X2 jr_atom_d (As := []) (Nat.le_of_ble_eq_true rfl) (Nat.le_of_ble_eq_true rfl) ⟨Nat.le_trans (Nat.le_of_ble_eq_true rfl) hmc, Nat.le_trans (Nat.le_of_ble_eq_true rfl) hms⟩ hP hS (ci := 2) jf_o1 rfl hl.1 rfl rfl (lv_room (Nat.le_of_ble_eq_true rfl)) dX2_sets_110 (fun pl24 v22a H locs k25 v22h hP hS => ?_)
        have u26 := x3h.mono k25
        have u27 := x3h.mono k25
        have hsub := jf_sub.trans hsub k25
        refine lv_goto (tgt := 117) hx hb dX2_sets_113 rfl ?_
        refine jf_initC (ci := 6) (n := 5) (fs1 := [.int x1, .int x2, .int x4, .ref x3a, .ref v22a]) (As := [.int x1, .int x2, .ref x3a, .int x4, .ref v22a]) hx hb hml hown hts hlv hV jc_X9_X9 q1059 q117 q1060 q1061 ⟨rfl, by decide +kernel⟩ (Nat.le_of_ble_eq_true rfl) (Nat.le_of_ble_eq_true rfl) hP hS ⟨Nat.le_trans (Nat.le_of_ble_eq_true rfl) hmc, Nat.le_trans (Nat.le_of_ble_eq_true rfl) hms⟩ hl.1 rfl rfl (lv_room (Nat.le_of_ble_eq_true rfl)) dX2_sets_117 (fun H locs hP hS => ?_)
        have k28 : jf_sub pl24 (pl24 ++ [(a1, (.inr (6, [.int x1, .int x2, .int x4, .ref x3a, .ref v22a]) : va_E))]) := fun q hq => List.mem_append_left _ hq
        have u29 := u27.mono k28
        have hsub := jf_sub.add (d := [(a1, (.inr (6, [.int x1, .int x2, .int x4, .ref x3a, .ref v22a]) : va_E))]) hsub
        obtain ⟨t30, et30, h⟩ := jx_nx_some h
        have pt30 : jo_Is (pl24 ++ [(a1, (.inr (6, [.int x1, .int x2, .int x4, .ref x3a, .ref v22a]) : va_E))]) a1 t30 := by rw [et30]; exact Or.inl ⟨rfl, x3a, _, List.mem_append_right _ List.mem_cons_self, (u26.mono k28), fun _ => ⟨v22a, rfl, (v22h.mono k28)⟩⟩
        refine jx_more (c1 := 24) (s1 := 120) (Nat.le_of_ble_eq_true rfl) (Nat.le_of_ble_eq_true rfl) ?_
        exact jr_ret hx hb hr hlk hV hP hS hsub pt30 h dX2_sets_120
      · obtain ⟨v22, S23, ev22, ho⟩ := gv22
        subst ho
        refine jx_more (c1 := 16) (s1 := 80) (Nat.le_of_ble_eq_true rfl) (Nat.le_of_ble_eq_true rfl) ?_
        exact jr_outA (E0 := E) (S1 := S23) (k := v22) hx hb hml hown hts hlv (jf_V_un hV) hV het hlk (jr_atom_met hfl ev22) jr_atom_g_X2 jr_atom_d (As := []) (Nat.le_of_ble_eq_true rfl) (Nat.le_of_ble_eq_true rfl) ⟨Nat.le_trans (Nat.le_of_ble_eq_true rfl) hmc, Nat.le_trans (Nat.le_of_ble_eq_true rfl) hms⟩ hsub (fun _ _ h => jf_P_un (h)) rfl hP hS (ci := 2) jf_o1 rfl hl.1 rfl rfl (lv_room (Nat.le_of_ble_eq_true rfl)) dX2_sets_110
theorem jr_sets_b69_ok {out : (jo_R ⊕ Nat) × jf_S} (hX : jr_Ok RX2 l p R s m args meth c A D E cX2_sets 6 (some (.object "JumpFence$Order")) 9 24 120) (F : Nat) (hsub : jf_sub pl0 pl) (x1 : Int32) (x2 : Int32) (x3 : Int32) {x3a : Nat} (x3h : jo_atom pl x3a x3) (x4 : Int32) (k0 : Int32) (S : jf_S) (h : jr_sets_b69 F x1 x2 x3 x4 k0 S = some out) : jr_J p l e R s m args below meth c A D E fo pl 6 8 40 (jr_Q jo_Is below args s A D E fo pl0 24 120 out) 69 [(0, .ref (E.1 1)), (1, .int x1), (2, .int x2), (3, .ref x3a), (4, .int x4)] [.int k0] S := by
  intro H locs ls hP hS hl
  have hX0 := hX
  obtain ⟨⟨hx, hb, hml, hown, hts, hlk, hr, hlv, hV, het⟩, hfl, hmc, hms⟩ := hX0
  unfold jr_sets_b69 at h
  refine lv_istore (lv' := [(5, .int k0), (0, .ref (E.1 1)), (1, .int x1), (2, .int x2), (3, .ref x3a), (4, .int x4)]) hx hb dX2_sets_69 hl (Nat.le_of_ble_eq_true rfl) rfl (fun ls hl => ?_)
  refine lv_iload hx hb dX2_sets_71 (lv_at hl 0 rfl) ?_
  refine lv_if_eq (tgt := 86) hx hb dX2_sets_73 rfl (fun c1 => ?_) (fun c1 => ?_)
  · rw [if_pos c1] at h
    exact jr_sets_b86_ok hX F hsub _ _ _ x3h _ _ _ h _ _ _ hP hS (lv_sub hl [1, 2, 3, 4, 5, 0] rfl)
  · rw [if_neg c1] at h
    refine lv_aload_n hx hb dX2_sets_76 rfl (lv_at hl 1 rfl) ?_
    refine lv_dup hx hb dX2_sets_77 rfl ?_
    refine jf_get hx hb hts in_X2 hown hV hP (ci := 2) (k := 6) jf_o1 rfl (by decide) (hts _ q248) rfl rfl dX2_sets_78 ?_
    refine lv_iconst hx hb dX2_sets_81 jx_ki1 ?_
    refine lv_iadd hx hb dX2_sets_82 ?_
    obtain ⟨S2, eS2, h⟩ := jx_nx_some h
    refine jf_put (S1 := S2) hx hb hts in_X2 tyX2_ok nmX2 hown hV hP hS (ci := 2) (k := 6) (by rw [eS2]; rfl) jf_o1 (by rw [eS2]; exact jf_s1_6 _) rfl (by decide) (hts _ q248) rfl rfl (tyX2_ok 6 (by decide)) ⟨rfl, rfl⟩ (Nat.le_of_ble_eq_true rfl) dX2_sets_83 (fun H locs hP hS => ?_)
    exact jr_sets_b86_ok hX F hsub _ _ _ x3h _ _ _ h _ _ _ hP hS (lv_sub hl [1, 2, 3, 4, 5, 0] rfl)
theorem jr_sets_b64_ok {out : (jo_R ⊕ Nat) × jf_S} (hX : jr_Ok RX2 l p R s m args meth c A D E cX2_sets 6 (some (.object "JumpFence$Order")) 9 24 120) (F : Nat) (hsub : jf_sub pl0 pl) (x1 : Int32) (x2 : Int32) (x3 : Int32) {x3a : Nat} (x3h : jo_atom pl x3a x3) (x4 : Int32) (S : jf_S) (h : jr_sets_b64 F x1 x2 x3 x4 S = some out) : jr_J p l e R s m args below meth c A D E fo pl 6 8 40 (jr_Q jo_Is below args s A D E fo pl0 24 120 out) 64 [(0, .ref (E.1 1)), (1, .int x1), (2, .int x2), (3, .ref x3a), (4, .int x4)] [] S := by
  intro H locs ls hP hS hl
  have hX0 := hX
  obtain ⟨⟨hx, hb, hml, hown, hts, hlk, hr, hlv, hV, het⟩, hfl, hmc, hms⟩ := hX0
  unfold jr_sets_b64 at h
  refine lv_iconst hx hb dX2_sets_64 jx_ki1 ?_
  refine lv_goto (tgt := 69) hx hb dX2_sets_65 rfl ?_
  exact jr_sets_b69_ok hX F hsub _ _ _ x3h _ _ _ h _ _ _ hP hS hl
theorem jr_sets_b22_ok {out : (jo_R ⊕ Nat) × jf_S} (hX : jr_Ok RX2 l p R s m args meth c A D E cX2_sets 6 (some (.object "JumpFence$Order")) 9 24 120) (F : Nat) (hsub : jf_sub pl0 pl) (x1 : Int32) (x2 : Int32) (S : jf_S) (h : jr_sets_b22 F x1 x2 S = some out) : jr_J p l e R s m args below meth c A D E fo pl 6 0 0 (jr_Q jo_Is below args s A D E fo pl0 24 120 out) 22 [(0, .ref (E.1 1)), (1, .int x1), (2, .int x2)] [] S := by
  intro H locs ls hP hS hl
  have hX0 := hX
  obtain ⟨⟨hx, hb, hml, hown, hts, hlk, hr, hlv, hV, het⟩, hfl, hmc, hms⟩ := hX0
  unfold jr_sets_b22 at h
  refine lv_aload_n hx hb dX2_sets_22 rfl (lv_at hl 0 rfl) ?_
  refine lv_dup hx hb dX2_sets_23 rfl ?_
  refine jf_get hx hb hts in_X2 hown hV hP (ci := 2) (k := 6) jf_o1 rfl (by decide) (hts _ q248) rfl rfl dX2_sets_24 ?_
  refine lv_iconst hx hb dX2_sets_27 jx_ki1 ?_
  refine lv_iadd hx hb dX2_sets_28 ?_
  obtain ⟨S1, eS1, h⟩ := jx_nx_some h
  refine jf_put (S1 := S1) hx hb hts in_X2 tyX2_ok nmX2 hown hV hP hS (ci := 2) (k := 6) (by rw [eS1]; rfl) jf_o1 (by rw [eS1]; exact jf_s1_6 _) rfl (by decide) (hts _ q248) rfl rfl (tyX2_ok 6 (by decide)) ⟨rfl, rfl⟩ (Nat.le_of_ble_eq_true rfl) dX2_sets_29 (fun H locs hP hS => ?_)
  refine lv_aload_n hx hb dX2_sets_32 rfl (lv_at hl 0 rfl) ?_
  refine (jx_xb_some h).elim (fun gv2 => ?_) (fun gv2 => ?_)
  · obtain ⟨v2, S3, ev2, h⟩ := gv2
    refine jr_callA (v := v2) (S1 := S3) hx hb hml hown hts hlv hV (jr_atom_met hfl ev2) jr_atom_g_X2 jr_atom_d (As := []) (Nat.le_of_ble_eq_true rfl) (Nat.le_of_ble_eq_true rfl) ⟨Nat.le_trans (Nat.le_of_ble_eq_true rfl) hmc, Nat.le_trans (Nat.le_of_ble_eq_true rfl) hms⟩ hP hS (ci := 2) jf_o1 rfl hl.1 rfl rfl (lv_room (Nat.le_of_ble_eq_true rfl)) dX2_sets_33 (fun pl4 v2a H locs k5 v2h hP hS => ?_)
    have hsub := jf_sub.trans hsub k5
    refine lv_astore_n (lv' := [(3, .ref v2a), (0, .ref (E.1 1)), (1, .int x1), (2, .int x2)]) hx hb dX2_sets_36 rfl hl (Nat.le_of_ble_eq_true rfl) rfl (fun ls hl => ?_)
    refine lv_aload_n hx hb dX2_sets_37 rfl (lv_at hl 1 rfl) ?_
    obtain ⟨v6, ev6, h⟩ := jx_bi_some h
    refine jr_callI hx hb hml hown hts hlv hV (jr_sign_met ev6) jr_sign_g_X2 jr_sign_d (As := []) (Nat.le_of_ble_eq_true rfl) (Nat.le_of_ble_eq_true rfl) ⟨Nat.le_trans (Nat.le_of_ble_eq_true rfl) hmc, Nat.le_trans (Nat.le_of_ble_eq_true rfl) hms⟩ hP hS (ci := 2) jf_o1 rfl hl.1 rfl rfl (lv_room (Nat.le_of_ble_eq_true rfl)) dX2_sets_38 (fun H locs hP hS => ?_)
    obtain ⟨y8, ey8, h⟩ := jx_nx_some h
    refine jx_topi ey8 ?_
    refine lv_istore (lv' := [(4, .int y8), (3, .ref v2a), (0, .ref (E.1 1)), (1, .int x1), (2, .int x2)]) hx hb dX2_sets_41 hl (Nat.le_of_ble_eq_true rfl) rfl (fun ls hl => ?_)
    refine lv_iload hx hb dX2_sets_43 (lv_at hl 0 rfl) ?_
    refine lv_bipush hx hb dX2_sets_45 jx_kb43 ?_
    refine lv_icmp_eq (tgt := 64) hx hb dX2_sets_47 rfl (fun c9 => ?_) (fun c9 => ?_)
    · rw [if_pos c9] at h
      exact jr_sets_b64_ok hX F hsub _ _ _ v2h _ _ h _ _ _ hP hS (lv_sub hl [2, 3, 4, 1, 0] rfl)
    · rw [if_neg c9] at h
      refine lv_iload hx hb dX2_sets_50 (lv_at hl 0 rfl) ?_
      refine lv_bipush hx hb dX2_sets_52 jx_kb45 ?_
      refine lv_icmp_eq (tgt := 64) hx hb dX2_sets_54 rfl (fun c10 => ?_) (fun c10 => ?_)
      · rw [if_pos c10] at h
        exact jr_sets_b64_ok hX F hsub _ _ _ v2h _ _ h _ _ _ hP hS (lv_sub hl [2, 3, 4, 1, 0] rfl)
      · rw [if_neg c10] at h
        refine lv_iload hx hb dX2_sets_57 (lv_at hl 0 rfl) ?_
        refine lv_bipush hx hb dX2_sets_59 jx_kb42 ?_
        refine lv_icmp_ne (tgt := 68) hx hb dX2_sets_61 rfl (fun c11 => ?_) (fun c11 => ?_)
        · rw [if_neg c11] at h
          refine lv_iconst hx hb dX2_sets_68 jx_ki0 ?_
          exact jr_sets_b69_ok hX F hsub _ _ _ v2h _ _ _ h _ _ _ hP hS (lv_sub hl [2, 3, 4, 1, 0] rfl)
        · rw [if_pos c11] at h
          exact jr_sets_b64_ok hX F hsub _ _ _ v2h _ _ h _ _ _ hP hS (lv_sub hl [2, 3, 4, 1, 0] rfl)
  · obtain ⟨v2, S3, ev2, ho⟩ := gv2
    subst ho
    refine jx_more (c1 := 16) (s1 := 80) (Nat.le_of_ble_eq_true rfl) (Nat.le_of_ble_eq_true rfl) ?_
    exact jr_outA (E0 := E) (S1 := S3) (k := v2) hx hb hml hown hts hlv hV hV het hlk (jr_atom_met hfl ev2) jr_atom_g_X2 jr_atom_d (As := []) (Nat.le_of_ble_eq_true rfl) (Nat.le_of_ble_eq_true rfl) ⟨Nat.le_trans (Nat.le_of_ble_eq_true rfl) hmc, Nat.le_trans (Nat.le_of_ble_eq_true rfl) hms⟩ hsub (fun _ _ h => h) rfl hP hS (ci := 2) jf_o1 rfl hl.1 rfl rfl (lv_room (Nat.le_of_ble_eq_true rfl)) dX2_sets_33
theorem jr_sets_ok {out : (jo_R ⊕ Nat) × jf_S} (hX : jr_Ok RX2 l p R s m args meth c A D E cX2_sets 6 (some (.object "JumpFence$Order")) 9 24 120) (F : Nat) (hsub : jf_sub pl0 pl) (x1 : Int32) (S : jf_S) (h : jr_sets F x1 S = some out) : jr_J p l e R s m args below meth c A D E fo pl 6 0 0 (jr_Q jo_Is below args s A D E fo pl0 24 120 out) 0 [(0, .ref (E.1 1)), (1, .int x1)] [] S := by
  intro H locs ls hP hS hl
  have hX0 := hX
  obtain ⟨⟨hx, hb, hml, hown, hts, hlk, hr, hlv, hV, het⟩, hfl, hmc, hms⟩ := hX0
  unfold jr_sets at h
  refine lv_aload_n hx hb dX2_sets_0 rfl (lv_at hl 0 rfl) ?_
  refine (jx_xb_some h).elim (fun gv1 => ?_) (fun gv1 => ?_)
  · obtain ⟨v1, S2, ev1, h⟩ := gv1
    refine jr_callI (out := (v1, S2)) hx hb hml hown hts hlv hV (jr_cell_met hfl ev1) jr_cell_g_X2 jr_cell_d (As := []) (Nat.le_of_ble_eq_true rfl) (Nat.le_of_ble_eq_true rfl) ⟨Nat.le_trans (Nat.le_of_ble_eq_true rfl) hmc, Nat.le_trans (Nat.le_of_ble_eq_true rfl) hms⟩ hP hS (ci := 2) jf_o1 rfl hl.1 rfl rfl (lv_room (Nat.le_of_ble_eq_true rfl)) dX2_sets_1 (fun H locs hP hS => ?_)
    refine lv_istore_n (lv' := [(2, .int v1), (0, .ref (E.1 1)), (1, .int x1)]) hx hb dX2_sets_4 rfl hl (Nat.le_of_ble_eq_true rfl) rfl (fun ls hl => ?_)
    refine lv_aload_n hx hb dX2_sets_5 rfl (lv_at hl 1 rfl) ?_
    obtain ⟨v3, ev3, h⟩ := jx_bi_some h
    refine jr_callI hx hb hml hown hts hlv hV (jr_sign_met ev3) jr_sign_g_X2 jr_sign_d (As := []) (Nat.le_of_ble_eq_true rfl) (Nat.le_of_ble_eq_true rfl) ⟨Nat.le_trans (Nat.le_of_ble_eq_true rfl) hmc, Nat.le_trans (Nat.le_of_ble_eq_true rfl) hms⟩ hP hS (ci := 2) jf_o1 rfl hl.1 rfl rfl (lv_room (Nat.le_of_ble_eq_true rfl)) dX2_sets_6 (fun H locs hP hS => ?_)
    refine lv_bipush hx hb dX2_sets_9 jx_kb61 ?_
    refine lv_icmp_eq (tgt := 22) hx hb dX2_sets_11 rfl (fun c5 => ?_) (fun c5 => ?_)
    · rw [if_pos c5] at h
      exact jr_sets_b22_ok hX F hsub _ _ _ h _ _ _ hP hS (lv_sub hl [1, 2, 0] rfl)
    · rw [if_neg c5] at h
      refine lv_aload_n hx hb dX2_sets_14 rfl (lv_at hl 1 rfl) ?_
      refine lv_aload_n hx hb dX2_sets_15 rfl (lv_at hl 1 rfl) ?_
      refine jf_get hx hb hts in_X2 hown hV hP (ci := 2) (k := 6) jf_o1 rfl (by decide) (hts _ q248) rfl rfl dX2_sets_16 ?_
      refine (jx_xb_some h).elim (fun gv6 => ?_) (fun gv6 => ?_)
      · obtain ⟨v6, S7, ev6, h⟩ := gv6
        refine jr_callV (out := S7) hx hb hml hown hts hlv hV (jr_fail_met hfl ev6) jr_fail_g_X2 jr_fail_d (As := [.int (v3.2.1 1 6)]) (Nat.le_of_ble_eq_true rfl) (Nat.le_of_ble_eq_true rfl) ⟨Nat.le_trans (Nat.le_of_ble_eq_true rfl) hmc, Nat.le_trans (Nat.le_of_ble_eq_true rfl) hms⟩ hP hS (ci := 2) jf_o1 rfl hl.1 rfl rfl (lv_room (Nat.le_of_ble_eq_true rfl)) dX2_sets_19 (fun H locs hP hS => ?_)
        exact jr_sets_b22_ok hX F hsub _ _ _ h _ _ _ hP hS (lv_sub hl [1, 2, 0] rfl)
      · obtain ⟨v6, S7, ev6, ho⟩ := gv6
        subst ho
        refine jx_more (c1 := 23) (s1 := 114) (Nat.le_of_ble_eq_true rfl) (Nat.le_of_ble_eq_true rfl) ?_
        exact jr_outV (E0 := E) (S1 := S7) (k := v6) hx hb hml hown hts hlv hV hV het hlk (jr_fail_met hfl ev6) jr_fail_g_X2 jr_fail_d (As := [.int (v3.2.1 1 6)]) (Nat.le_of_ble_eq_true rfl) (Nat.le_of_ble_eq_true rfl) ⟨Nat.le_trans (Nat.le_of_ble_eq_true rfl) hmc, Nat.le_trans (Nat.le_of_ble_eq_true rfl) hms⟩ hsub (fun _ h => h) rfl hP hS (ci := 2) jf_o1 rfl hl.1 rfl rfl (lv_room (Nat.le_of_ble_eq_true rfl)) dX2_sets_19
  · obtain ⟨v1, S2, ev1, ho⟩ := gv1
    subst ho
    refine jx_more (c1 := 23) (s1 := 114) (Nat.le_of_ble_eq_true rfl) (Nat.le_of_ble_eq_true rfl) ?_
    exact jr_outV (E0 := E) (S1 := S2) (k := v1) hx hb hml hown hts hlv hV hV het hlk (jr_cell_met hfl ev1) jr_cell_g_X2 jr_cell_d (As := []) (Nat.le_of_ble_eq_true rfl) (Nat.le_of_ble_eq_true rfl) ⟨Nat.le_trans (Nat.le_of_ble_eq_true rfl) hmc, Nat.le_trans (Nat.le_of_ble_eq_true rfl) hms⟩ hsub (fun _ h => h) rfl hP hS (ci := 2) jf_o1 rfl hl.1 rfl rfl (lv_room (Nat.le_of_ble_eq_true rfl)) dX2_sets_1
theorem jr_sets_met {l : Launch} {D : va_G} {E : jf_E} {A : Nat → Prop} {fo : Nat → Nat → Option Nat} {pl : va_W} {F : Nat} (hfl : l.flags = flags0) {x1 : Int32} {S : jf_S} {out : (jo_R ⊕ Nat) × jf_S} (h : jr_sets F x1 S = some out) : jr_M jo_Is l D E A fo pl yX2_sets cX2_sets 6 (some (.object "JumpFence$Order")) 9 24 120 [.ref (E.1 1), .int x1] S out :=
  jr_M_of hfl (own := RX2) ⟨by decide, rfl, Nat.le_of_ble_eq_true rfl⟩ (fun hX => jr_sets_ok hX F jf_sub.rf x1 S h)
theorem jr_order_g_X2 : GoodIn lw_all (wsV RX2 106 RX2 yX2_order (ws_ yX2_order cX2_order 4 (some (.object "JumpFence$Order")))) := lw_V q1017 q1019 qs19 q103 q1020
theorem jr_order_d : yX2_order.cls = RX2 ∧ yX2_order.cls ≠ "java/lang/invoke/MethodHandle" ∧ yX2_order.cls ≠ "java/lang/invoke/VarHandle" ∧ (parseMethodDescriptor yX2_order.desc).map (fun d => d.parameters.length) = some 1 := by decide +kernel
theorem jr_order_b30_ok {out : (jo_R ⊕ Nat) × jf_S} (hX : jr_Ok RX2 l p R s m args meth c A D E cX2_order 4 (some (.object "JumpFence$Order")) 10 40 200) (F : Nat) (hsub : jf_sub pl0 pl) (x1 : Int32) (x2 : Int32) (S : jf_S) (h : jr_order_b30 F x1 x2 S = some out) : jr_J p l e R s m args below meth c A D E fo pl 4 0 0 (jr_Q jo_Is below args s A D E fo pl0 40 200 out) 30 [(0, .ref (E.1 1)), (1, .int x1), (2, .int x2)] [] S := by
  intro H locs ls hP hS hl
  have hX0 := hX
  obtain ⟨⟨hx, hb, hml, hown, hts, hlk, hr, hlv, hV, het⟩, hfl, hmc, hms⟩ := hX0
  unfold jr_order_b30 at h
  refine lv_iload_n hx hb dX2_order_30 rfl (lv_at hl 2 rfl) ?_
  by_cases sw31_0 : x2 = nI 0
  · rw [if_pos sw31_0] at h
    refine lv_tableIn (tgt := 84) (off := 53) hx hb dX2_order_31 (by rw [sw31_0]; decide) (by rw [sw31_0]; decide) (by rw [sw31_0]; decide) rfl ?_
    refine lv_aload_n hx hb dX2_order_84 rfl (lv_at hl 0 rfl) ?_
    refine lv_iload_n hx hb dX2_order_85 rfl (lv_at hl 1 rfl) ?_
    refine (jx_xb_some h).elim (fun gv1 => ?_) (fun gv1 => ?_)
    · obtain ⟨v1, S2, ev1, h⟩ := gv1
      refine jr_callA (v := v1) (S1 := S2) hx hb hml hown hts hlv hV (jr_sets_met hfl ev1) jr_sets_g_X2 jr_sets_d (As := [.int x1]) (Nat.le_of_ble_eq_true rfl) (Nat.le_of_ble_eq_true rfl) ⟨Nat.le_trans (Nat.le_of_ble_eq_true rfl) hmc, Nat.le_trans (Nat.le_of_ble_eq_true rfl) hms⟩ hP hS (ci := 2) jf_o1 rfl hl.1 rfl rfl (lv_room (Nat.le_of_ble_eq_true rfl)) dX2_order_86 (fun pl3 v1a H locs k4 v1h hP hS => ?_)
      have hsub := jf_sub.trans hsub k4
      refine jx_more (c1 := 40) (s1 := 200) (Nat.le_of_ble_eq_true rfl) (Nat.le_of_ble_eq_true rfl) ?_
      exact jr_ret hx hb hr hlk hV hP hS hsub v1h h dX2_order_89
    · obtain ⟨v1, S2, ev1, ho⟩ := gv1
      subst ho
      refine jx_more (c1 := 16) (s1 := 80) (Nat.le_of_ble_eq_true rfl) (Nat.le_of_ble_eq_true rfl) ?_
      exact jr_outA (E0 := E) (S1 := S2) (k := v1) hx hb hml hown hts hlv hV hV het hlk (jr_sets_met hfl ev1) jr_sets_g_X2 jr_sets_d (As := [.int x1]) (Nat.le_of_ble_eq_true rfl) (Nat.le_of_ble_eq_true rfl) ⟨Nat.le_trans (Nat.le_of_ble_eq_true rfl) hmc, Nat.le_trans (Nat.le_of_ble_eq_true rfl) hms⟩ hsub (fun _ _ h => h) rfl hP hS (ci := 2) jf_o1 rfl hl.1 rfl rfl (lv_room (Nat.le_of_ble_eq_true rfl)) dX2_order_86
  · rw [if_neg sw31_0] at h
    by_cases sw31_1 : x2 = nI 1
    · rw [if_pos sw31_1] at h
      refine lv_tableIn (tgt := 90) (off := 59) hx hb dX2_order_31 (by rw [sw31_1]; decide) (by rw [sw31_1]; decide) (by rw [sw31_1]; decide) rfl ?_
      refine lv_aload_n hx hb dX2_order_90 rfl (lv_at hl 0 rfl) ?_
      refine (jx_xb_some h).elim (fun gv5 => ?_) (fun gv5 => ?_)
      · obtain ⟨v5, S6, ev5, h⟩ := gv5
        refine jr_callI (out := (v5, S6)) hx hb hml hown hts hlv hV (jr_cell_met hfl ev5) jr_cell_g_X2 jr_cell_d (As := []) (Nat.le_of_ble_eq_true rfl) (Nat.le_of_ble_eq_true rfl) ⟨Nat.le_trans (Nat.le_of_ble_eq_true rfl) hmc, Nat.le_trans (Nat.le_of_ble_eq_true rfl) hms⟩ hP hS (ci := 2) jf_o1 rfl hl.1 rfl rfl (lv_room (Nat.le_of_ble_eq_true rfl)) dX2_order_91 (fun H locs hP hS => ?_)
        refine lv_istore_n (lv' := [(3, .int v5), (0, .ref (E.1 1)), (1, .int x1), (2, .int x2)]) hx hb dX2_order_94 rfl hl (Nat.le_of_ble_eq_true rfl) rfl (fun ls hl => ?_)
        refine lv_aload_n hx hb dX2_order_95 rfl (lv_at hl 1 rfl) ?_
        refine jf_ldcS (i := 12) (ix := 113) (tx := "at") hx hb hown hV (by decide) rfl rfl dX2_order_96 ?_
        refine (jx_xb_some h).elim (fun gv7 => ?_) (fun gv7 => ?_)
        · obtain ⟨v7, S8, ev7, h⟩ := gv7
          refine jr_callV (out := S8) hx hb hml hown hts hlv hV (jr_expect_met hfl ev7) jr_expect_g_X2 jr_expect_d (As := [.ref (E.2.2.2.1 12)]) (Nat.le_of_ble_eq_true rfl) (Nat.le_of_ble_eq_true rfl) ⟨Nat.le_trans (Nat.le_of_ble_eq_true rfl) hmc, Nat.le_trans (Nat.le_of_ble_eq_true rfl) hms⟩ hP hS (ci := 2) jf_o1 rfl hl.1 rfl rfl (lv_room (Nat.le_of_ble_eq_true rfl)) dX2_order_98 (fun H locs hP hS => ?_)
          refine jf_newC (ci := 7) (fs := [.int 0, .int 0, .int 0]) hx hb hts in_X10 tyX10_ok hown (hts _ q1086) (hts _ q1087) (hts _ q118) hV hP hS rfl (by decide) (Nat.le_trans (Nat.le_of_ble_eq_true rfl) hmc) (Nat.le_trans (Nat.le_of_ble_eq_true rfl) hms) dX2_order_101 (fun a9 H hP hS => ?_)
          refine lv_dup hx hb dX2_order_104 rfl ?_
          refine lv_iload_n hx hb dX2_order_105 rfl (lv_at hl 2 rfl) ?_
          refine lv_iload_n hx hb dX2_order_106 rfl (lv_at hl 0 rfl) ?_
          refine lv_aload_n hx hb dX2_order_107 rfl (lv_at hl 1 rfl) ?_
          refine (jx_xb_some h).elim (fun gv10 => ?_) (fun gv10 => ?_)
          · obtain ⟨v10, S11, ev10, h⟩ := gv10
            refine jr_callI (out := (v10, S11)) hx hb hml hown hts hlv (jf_V_un hV) (jr_place_met hfl ev10) jr_place_g_X2 jr_place_d (As := []) (Nat.le_of_ble_eq_true rfl) (Nat.le_of_ble_eq_true rfl) ⟨Nat.le_trans (Nat.le_of_ble_eq_true rfl) hmc, Nat.le_trans (Nat.le_of_ble_eq_true rfl) hms⟩ hP hS (ci := 2) jf_o1 rfl hl.1 rfl rfl (lv_room (Nat.le_of_ble_eq_true rfl)) dX2_order_108 (fun H locs hP hS => ?_)
            refine jf_initC (ci := 7) (n := 3) (fs1 := [.int x1, .int v5, .int v10]) (As := [.int x1, .int v5, .int v10]) hx hb hml hown hts hlv hV jc_X10_X10 q1092 q118 q1093 q1094 ⟨rfl, by decide +kernel⟩ (Nat.le_of_ble_eq_true rfl) (Nat.le_of_ble_eq_true rfl) hP hS ⟨Nat.le_trans (Nat.le_of_ble_eq_true rfl) hmc, Nat.le_trans (Nat.le_of_ble_eq_true rfl) hms⟩ hl.1 rfl rfl (lv_room (Nat.le_of_ble_eq_true rfl)) dX2_order_111 (fun H locs hP hS => ?_)
            have k12 : jf_sub pl (pl ++ [(a9, (.inr (7, [.int x1, .int v5, .int v10]) : va_E))]) := fun q hq => List.mem_append_left _ hq
            have hsub := jf_sub.add (d := [(a9, (.inr (7, [.int x1, .int v5, .int v10]) : va_E))]) hsub
            obtain ⟨t13, et13, h⟩ := jx_nx_some h
            have pt13 : jo_Is (pl ++ [(a9, (.inr (7, [.int x1, .int v5, .int v10]) : va_E))]) a9 t13 := by rw [et13]; exact Or.inr (Or.inl ⟨rfl, List.mem_append_right _ List.mem_cons_self⟩)
            refine jx_more (c1 := 40) (s1 := 200) (Nat.le_of_ble_eq_true rfl) (Nat.le_of_ble_eq_true rfl) ?_
            exact jr_ret hx hb hr hlk hV hP hS hsub pt13 h dX2_order_114
          · obtain ⟨v10, S11, ev10, ho⟩ := gv10
            subst ho
            refine jx_more (c1 := 39) (s1 := 194) (Nat.le_of_ble_eq_true rfl) (Nat.le_of_ble_eq_true rfl) ?_
            exact jr_outV (E0 := E) (S1 := S11) (k := v10) hx hb hml hown hts hlv (jf_V_un hV) hV het hlk (jr_place_met hfl ev10) jr_place_g_X2 jr_place_d (As := []) (Nat.le_of_ble_eq_true rfl) (Nat.le_of_ble_eq_true rfl) ⟨Nat.le_trans (Nat.le_of_ble_eq_true rfl) hmc, Nat.le_trans (Nat.le_of_ble_eq_true rfl) hms⟩ hsub (fun _ h => jf_P_un (h)) rfl hP hS (ci := 2) jf_o1 rfl hl.1 rfl rfl (lv_room (Nat.le_of_ble_eq_true rfl)) dX2_order_108
        · obtain ⟨v7, S8, ev7, ho⟩ := gv7
          subst ho
          refine jx_more (c1 := 39) (s1 := 194) (Nat.le_of_ble_eq_true rfl) (Nat.le_of_ble_eq_true rfl) ?_
          exact jr_outV (E0 := E) (S1 := S8) (k := v7) hx hb hml hown hts hlv hV hV het hlk (jr_expect_met hfl ev7) jr_expect_g_X2 jr_expect_d (As := [.ref (E.2.2.2.1 12)]) (Nat.le_of_ble_eq_true rfl) (Nat.le_of_ble_eq_true rfl) ⟨Nat.le_trans (Nat.le_of_ble_eq_true rfl) hmc, Nat.le_trans (Nat.le_of_ble_eq_true rfl) hms⟩ hsub (fun _ h => h) rfl hP hS (ci := 2) jf_o1 rfl hl.1 rfl rfl (lv_room (Nat.le_of_ble_eq_true rfl)) dX2_order_98
      · obtain ⟨v5, S6, ev5, ho⟩ := gv5
        subst ho
        refine jx_more (c1 := 39) (s1 := 194) (Nat.le_of_ble_eq_true rfl) (Nat.le_of_ble_eq_true rfl) ?_
        exact jr_outV (E0 := E) (S1 := S6) (k := v5) hx hb hml hown hts hlv hV hV het hlk (jr_cell_met hfl ev5) jr_cell_g_X2 jr_cell_d (As := []) (Nat.le_of_ble_eq_true rfl) (Nat.le_of_ble_eq_true rfl) ⟨Nat.le_trans (Nat.le_of_ble_eq_true rfl) hmc, Nat.le_trans (Nat.le_of_ble_eq_true rfl) hms⟩ hsub (fun _ h => h) rfl hP hS (ci := 2) jf_o1 rfl hl.1 rfl rfl (lv_room (Nat.le_of_ble_eq_true rfl)) dX2_order_91
    · rw [if_neg sw31_1] at h
      by_cases sw31_2 : x2 = nI 2
      · rw [if_pos sw31_2] at h
        refine lv_tableIn (tgt := 115) (off := 84) hx hb dX2_order_31 (by rw [sw31_2]; decide) (by rw [sw31_2]; decide) (by rw [sw31_2]; decide) rfl ?_
        refine jf_newC (ci := 8) (fs := [.int 0, .int 0]) hx hb hts in_X11 tyX11_ok hown (hts _ q1106) (hts _ q1107) (hts _ q119) hV hP hS rfl (by decide) (Nat.le_trans (Nat.le_of_ble_eq_true rfl) hmc) (Nat.le_trans (Nat.le_of_ble_eq_true rfl) hms) dX2_order_115 (fun a14 H hP hS => ?_)
        refine lv_dup hx hb dX2_order_118 rfl ?_
        refine lv_iload_n hx hb dX2_order_119 rfl (lv_at hl 1 rfl) ?_
        refine lv_aload_n hx hb dX2_order_120 rfl (lv_at hl 0 rfl) ?_
        refine (jx_xb_some h).elim (fun gv15 => ?_) (fun gv15 => ?_)
        · obtain ⟨v15, S16, ev15, h⟩ := gv15
          refine jr_callI (out := (v15, S16)) hx hb hml hown hts hlv (jf_V_un hV) (jr_place_met hfl ev15) jr_place_g_X2 jr_place_d (As := []) (Nat.le_of_ble_eq_true rfl) (Nat.le_of_ble_eq_true rfl) ⟨Nat.le_trans (Nat.le_of_ble_eq_true rfl) hmc, Nat.le_trans (Nat.le_of_ble_eq_true rfl) hms⟩ hP hS (ci := 2) jf_o1 rfl hl.1 rfl rfl (lv_room (Nat.le_of_ble_eq_true rfl)) dX2_order_121 (fun H locs hP hS => ?_)
          refine jf_initC (ci := 8) (n := 2) (fs1 := [.int x1, .int v15]) (As := [.int x1, .int v15]) hx hb hml hown hts hlv hV jc_X11_X11 q1108 q119 q1109 q1110 ⟨rfl, by decide +kernel⟩ (Nat.le_of_ble_eq_true rfl) (Nat.le_of_ble_eq_true rfl) hP hS ⟨Nat.le_trans (Nat.le_of_ble_eq_true rfl) hmc, Nat.le_trans (Nat.le_of_ble_eq_true rfl) hms⟩ hl.1 rfl rfl (lv_room (Nat.le_of_ble_eq_true rfl)) dX2_order_124 (fun H locs hP hS => ?_)
          have k17 : jf_sub pl (pl ++ [(a14, (.inr (8, [.int x1, .int v15]) : va_E))]) := fun q hq => List.mem_append_left _ hq
          have hsub := jf_sub.add (d := [(a14, (.inr (8, [.int x1, .int v15]) : va_E))]) hsub
          obtain ⟨t18, et18, h⟩ := jx_nx_some h
          have pt18 : jo_Is (pl ++ [(a14, (.inr (8, [.int x1, .int v15]) : va_E))]) a14 t18 := by rw [et18]; exact Or.inr (Or.inr (Or.inl ⟨rfl, List.mem_append_right _ List.mem_cons_self⟩))
          refine jx_more (c1 := 40) (s1 := 200) (Nat.le_of_ble_eq_true rfl) (Nat.le_of_ble_eq_true rfl) ?_
          exact jr_ret hx hb hr hlk hV hP hS hsub pt18 h dX2_order_127
        · obtain ⟨v15, S16, ev15, ho⟩ := gv15
          subst ho
          refine jx_more (c1 := 39) (s1 := 194) (Nat.le_of_ble_eq_true rfl) (Nat.le_of_ble_eq_true rfl) ?_
          exact jr_outV (E0 := E) (S1 := S16) (k := v15) hx hb hml hown hts hlv (jf_V_un hV) hV het hlk (jr_place_met hfl ev15) jr_place_g_X2 jr_place_d (As := []) (Nat.le_of_ble_eq_true rfl) (Nat.le_of_ble_eq_true rfl) ⟨Nat.le_trans (Nat.le_of_ble_eq_true rfl) hmc, Nat.le_trans (Nat.le_of_ble_eq_true rfl) hms⟩ hsub (fun _ h => jf_P_un (h)) rfl hP hS (ci := 2) jf_o1 rfl hl.1 rfl rfl (lv_room (Nat.le_of_ble_eq_true rfl)) dX2_order_121
      · rw [if_neg sw31_2] at h
        by_cases sw31_3 : x2 = nI 3
        · rw [if_pos sw31_3] at h
          refine lv_tableIn (tgt := 128) (off := 97) hx hb dX2_order_31 (by rw [sw31_3]; decide) (by rw [sw31_3]; decide) (by rw [sw31_3]; decide) rfl ?_
          refine lv_aload_n hx hb dX2_order_128 rfl (lv_at hl 0 rfl) ?_
          refine lv_iload_n hx hb dX2_order_129 rfl (lv_at hl 1 rfl) ?_
          refine (jx_xb_some h).elim (fun gv19 => ?_) (fun gv19 => ?_)
          · obtain ⟨v19, S20, ev19, h⟩ := gv19
            refine jr_callA (v := v19) (S1 := S20) hx hb hml hown hts hlv hV (jr_ifs_met hfl ev19) jr_ifs_g_X2 jr_ifs_d (As := [.int x1]) (Nat.le_of_ble_eq_true rfl) (Nat.le_of_ble_eq_true rfl) ⟨Nat.le_trans (Nat.le_of_ble_eq_true rfl) hmc, Nat.le_trans (Nat.le_of_ble_eq_true rfl) hms⟩ hP hS (ci := 2) jf_o1 rfl hl.1 rfl rfl (lv_room (Nat.le_of_ble_eq_true rfl)) dX2_order_130 (fun pl21 v19a H locs k22 v19h hP hS => ?_)
            have hsub := jf_sub.trans hsub k22
            refine jx_more (c1 := 40) (s1 := 200) (Nat.le_of_ble_eq_true rfl) (Nat.le_of_ble_eq_true rfl) ?_
            exact jr_ret hx hb hr hlk hV hP hS hsub v19h h dX2_order_133
          · obtain ⟨v19, S20, ev19, ho⟩ := gv19
            subst ho
            refine jx_more (c1 := 16) (s1 := 80) (Nat.le_of_ble_eq_true rfl) (Nat.le_of_ble_eq_true rfl) ?_
            exact jr_outA (E0 := E) (S1 := S20) (k := v19) hx hb hml hown hts hlv hV hV het hlk (jr_ifs_met hfl ev19) jr_ifs_g_X2 jr_ifs_d (As := [.int x1]) (Nat.le_of_ble_eq_true rfl) (Nat.le_of_ble_eq_true rfl) ⟨Nat.le_trans (Nat.le_of_ble_eq_true rfl) hmc, Nat.le_trans (Nat.le_of_ble_eq_true rfl) hms⟩ hsub (fun _ _ h => h) rfl hP hS (ci := 2) jf_o1 rfl hl.1 rfl rfl (lv_room (Nat.le_of_ble_eq_true rfl)) dX2_order_130
        · rw [if_neg sw31_3] at h
          by_cases sw31_4 : x2 = nI 4
          · rw [if_pos sw31_4] at h
            refine lv_tableIn (tgt := 134) (off := 103) hx hb dX2_order_31 (by rw [sw31_4]; decide) (by rw [sw31_4]; decide) (by rw [sw31_4]; decide) rfl ?_
            refine lv_aload_n hx hb dX2_order_134 rfl (lv_at hl 0 rfl) ?_
            refine (jx_xb_some h).elim (fun gv23 => ?_) (fun gv23 => ?_)
            · obtain ⟨v23, S24, ev23, h⟩ := gv23
              refine jr_callI (out := (v23, S24)) hx hb hml hown hts hlv hV (jr_cell_met hfl ev23) jr_cell_g_X2 jr_cell_d (As := []) (Nat.le_of_ble_eq_true rfl) (Nat.le_of_ble_eq_true rfl) ⟨Nat.le_trans (Nat.le_of_ble_eq_true rfl) hmc, Nat.le_trans (Nat.le_of_ble_eq_true rfl) hms⟩ hP hS (ci := 2) jf_o1 rfl hl.1 rfl rfl (lv_room (Nat.le_of_ble_eq_true rfl)) dX2_order_135 (fun H locs hP hS => ?_)
              refine lv_istore_n (lv' := [(3, .int v23), (0, .ref (E.1 1)), (1, .int x1), (2, .int x2)]) hx hb dX2_order_138 rfl hl (Nat.le_of_ble_eq_true rfl) rfl (fun ls hl => ?_)
              refine jf_newC (ci := 10) (fs := [.int 0, .int 0, .int 0]) hx hb hts in_X13 tyX13_ok hown (hts _ q1145) (hts _ q1146) (hts _ q121) hV hP hS rfl (by decide) (Nat.le_trans (Nat.le_of_ble_eq_true rfl) hmc) (Nat.le_trans (Nat.le_of_ble_eq_true rfl) hms) dX2_order_139 (fun a25 H hP hS => ?_)
              refine lv_dup hx hb dX2_order_142 rfl ?_
              refine lv_iload_n hx hb dX2_order_143 rfl (lv_at hl 2 rfl) ?_
              refine lv_iload_n hx hb dX2_order_144 rfl (lv_at hl 0 rfl) ?_
              refine lv_aload_n hx hb dX2_order_145 rfl (lv_at hl 1 rfl) ?_
              refine (jx_xb_some h).elim (fun gv26 => ?_) (fun gv26 => ?_)
              · obtain ⟨v26, S27, ev26, h⟩ := gv26
                refine jr_callI (out := (v26, S27)) hx hb hml hown hts hlv (jf_V_un hV) (jr_kind_met hfl ev26) jr_kind_g_X2 jr_kind_d (As := []) (Nat.le_of_ble_eq_true rfl) (Nat.le_of_ble_eq_true rfl) ⟨Nat.le_trans (Nat.le_of_ble_eq_true rfl) hmc, Nat.le_trans (Nat.le_of_ble_eq_true rfl) hms⟩ hP hS (ci := 2) jf_o1 rfl hl.1 rfl rfl (lv_room (Nat.le_of_ble_eq_true rfl)) dX2_order_146 (fun H locs hP hS => ?_)
                refine jf_initC (ci := 10) (n := 3) (fs1 := [.int x1, .int v23, .int v26]) (As := [.int x1, .int v23, .int v26]) hx hb hml hown hts hlv hV jc_X13_X13 q1152 q121 q1153 q1154 ⟨rfl, by decide +kernel⟩ (Nat.le_of_ble_eq_true rfl) (Nat.le_of_ble_eq_true rfl) hP hS ⟨Nat.le_trans (Nat.le_of_ble_eq_true rfl) hmc, Nat.le_trans (Nat.le_of_ble_eq_true rfl) hms⟩ hl.1 rfl rfl (lv_room (Nat.le_of_ble_eq_true rfl)) dX2_order_149 (fun H locs hP hS => ?_)
                have k28 : jf_sub pl (pl ++ [(a25, (.inr (10, [.int x1, .int v23, .int v26]) : va_E))]) := fun q hq => List.mem_append_left _ hq
                have hsub := jf_sub.add (d := [(a25, (.inr (10, [.int x1, .int v23, .int v26]) : va_E))]) hsub
                obtain ⟨t29, et29, h⟩ := jx_nx_some h
                have pt29 : jo_Is (pl ++ [(a25, (.inr (10, [.int x1, .int v23, .int v26]) : va_E))]) a25 t29 := by rw [et29]; exact Or.inr (Or.inr (Or.inr (Or.inr (Or.inl ⟨rfl, List.mem_append_right _ List.mem_cons_self⟩))))
                refine jx_more (c1 := 40) (s1 := 200) (Nat.le_of_ble_eq_true rfl) (Nat.le_of_ble_eq_true rfl) ?_
                exact jr_ret hx hb hr hlk hV hP hS hsub pt29 h dX2_order_152
              · obtain ⟨v26, S27, ev26, ho⟩ := gv26
                subst ho
                refine jx_more (c1 := 39) (s1 := 194) (Nat.le_of_ble_eq_true rfl) (Nat.le_of_ble_eq_true rfl) ?_
                exact jr_outV (E0 := E) (S1 := S27) (k := v26) hx hb hml hown hts hlv (jf_V_un hV) hV het hlk (jr_kind_met hfl ev26) jr_kind_g_X2 jr_kind_d (As := []) (Nat.le_of_ble_eq_true rfl) (Nat.le_of_ble_eq_true rfl) ⟨Nat.le_trans (Nat.le_of_ble_eq_true rfl) hmc, Nat.le_trans (Nat.le_of_ble_eq_true rfl) hms⟩ hsub (fun _ h => jf_P_un (h)) rfl hP hS (ci := 2) jf_o1 rfl hl.1 rfl rfl (lv_room (Nat.le_of_ble_eq_true rfl)) dX2_order_146
            · obtain ⟨v23, S24, ev23, ho⟩ := gv23
              subst ho
              refine jx_more (c1 := 39) (s1 := 194) (Nat.le_of_ble_eq_true rfl) (Nat.le_of_ble_eq_true rfl) ?_
              exact jr_outV (E0 := E) (S1 := S24) (k := v23) hx hb hml hown hts hlv hV hV het hlk (jr_cell_met hfl ev23) jr_cell_g_X2 jr_cell_d (As := []) (Nat.le_of_ble_eq_true rfl) (Nat.le_of_ble_eq_true rfl) ⟨Nat.le_trans (Nat.le_of_ble_eq_true rfl) hmc, Nat.le_trans (Nat.le_of_ble_eq_true rfl) hms⟩ hsub (fun _ h => h) rfl hP hS (ci := 2) jf_o1 rfl hl.1 rfl rfl (lv_room (Nat.le_of_ble_eq_true rfl)) dX2_order_135
          · rw [if_neg sw31_4] at h
            by_cases sw31_5 : x2 = nI 5
            · rw [if_pos sw31_5] at h
              refine lv_tableIn (tgt := 153) (off := 122) hx hb dX2_order_31 (by rw [sw31_5]; decide) (by rw [sw31_5]; decide) (by rw [sw31_5]; decide) rfl ?_
              refine jf_newC (ci := 11) (fs := [.int 0, .int 0]) hx hb hts in_X14 tyX14_ok hown (hts _ q1164) (hts _ q1165) (hts _ q122) hV hP hS rfl (by decide) (Nat.le_trans (Nat.le_of_ble_eq_true rfl) hmc) (Nat.le_trans (Nat.le_of_ble_eq_true rfl) hms) dX2_order_153 (fun a30 H hP hS => ?_)
              refine lv_dup hx hb dX2_order_156 rfl ?_
              refine lv_iload_n hx hb dX2_order_157 rfl (lv_at hl 1 rfl) ?_
              refine lv_aload_n hx hb dX2_order_158 rfl (lv_at hl 0 rfl) ?_
              refine (jx_xb_some h).elim (fun gv31 => ?_) (fun gv31 => ?_)
              · obtain ⟨v31, S32, ev31, h⟩ := gv31
                refine jr_callI (out := (v31, S32)) hx hb hml hown hts hlv (jf_V_un hV) (jr_place_met hfl ev31) jr_place_g_X2 jr_place_d (As := []) (Nat.le_of_ble_eq_true rfl) (Nat.le_of_ble_eq_true rfl) ⟨Nat.le_trans (Nat.le_of_ble_eq_true rfl) hmc, Nat.le_trans (Nat.le_of_ble_eq_true rfl) hms⟩ hP hS (ci := 2) jf_o1 rfl hl.1 rfl rfl (lv_room (Nat.le_of_ble_eq_true rfl)) dX2_order_159 (fun H locs hP hS => ?_)
                refine jf_initC (ci := 11) (n := 2) (fs1 := [.int x1, .int v31]) (As := [.int x1, .int v31]) hx hb hml hown hts hlv hV jc_X14_X14 q1166 q122 q1167 q1168 ⟨rfl, by decide +kernel⟩ (Nat.le_of_ble_eq_true rfl) (Nat.le_of_ble_eq_true rfl) hP hS ⟨Nat.le_trans (Nat.le_of_ble_eq_true rfl) hmc, Nat.le_trans (Nat.le_of_ble_eq_true rfl) hms⟩ hl.1 rfl rfl (lv_room (Nat.le_of_ble_eq_true rfl)) dX2_order_162 (fun H locs hP hS => ?_)
                have k33 : jf_sub pl (pl ++ [(a30, (.inr (11, [.int x1, .int v31]) : va_E))]) := fun q hq => List.mem_append_left _ hq
                have hsub := jf_sub.add (d := [(a30, (.inr (11, [.int x1, .int v31]) : va_E))]) hsub
                obtain ⟨t34, et34, h⟩ := jx_nx_some h
                have pt34 : jo_Is (pl ++ [(a30, (.inr (11, [.int x1, .int v31]) : va_E))]) a30 t34 := by rw [et34]; exact Or.inr (Or.inr (Or.inr (Or.inr (Or.inr (Or.inl ⟨rfl, List.mem_append_right _ List.mem_cons_self⟩)))))
                refine jx_more (c1 := 40) (s1 := 200) (Nat.le_of_ble_eq_true rfl) (Nat.le_of_ble_eq_true rfl) ?_
                exact jr_ret hx hb hr hlk hV hP hS hsub pt34 h dX2_order_165
              · obtain ⟨v31, S32, ev31, ho⟩ := gv31
                subst ho
                refine jx_more (c1 := 39) (s1 := 194) (Nat.le_of_ble_eq_true rfl) (Nat.le_of_ble_eq_true rfl) ?_
                exact jr_outV (E0 := E) (S1 := S32) (k := v31) hx hb hml hown hts hlv (jf_V_un hV) hV het hlk (jr_place_met hfl ev31) jr_place_g_X2 jr_place_d (As := []) (Nat.le_of_ble_eq_true rfl) (Nat.le_of_ble_eq_true rfl) ⟨Nat.le_trans (Nat.le_of_ble_eq_true rfl) hmc, Nat.le_trans (Nat.le_of_ble_eq_true rfl) hms⟩ hsub (fun _ h => jf_P_un (h)) rfl hP hS (ci := 2) jf_o1 rfl hl.1 rfl rfl (lv_room (Nat.le_of_ble_eq_true rfl)) dX2_order_159
            · rw [if_neg sw31_5] at h
              by_cases sw31_6 : x2 = nI 6
              · rw [if_pos sw31_6] at h
                refine lv_tableIn (tgt := 166) (off := 135) hx hb dX2_order_31 (by rw [sw31_6]; decide) (by rw [sw31_6]; decide) (by rw [sw31_6]; decide) rfl ?_
                refine lv_aload_n hx hb dX2_order_166 rfl (lv_at hl 0 rfl) ?_
                refine (jx_xb_some h).elim (fun gv35 => ?_) (fun gv35 => ?_)
                · obtain ⟨v35, S36, ev35, h⟩ := gv35
                  refine jr_callI (out := (v35, S36)) hx hb hml hown hts hlv hV (jr_cell_met hfl ev35) jr_cell_g_X2 jr_cell_d (As := []) (Nat.le_of_ble_eq_true rfl) (Nat.le_of_ble_eq_true rfl) ⟨Nat.le_trans (Nat.le_of_ble_eq_true rfl) hmc, Nat.le_trans (Nat.le_of_ble_eq_true rfl) hms⟩ hP hS (ci := 2) jf_o1 rfl hl.1 rfl rfl (lv_room (Nat.le_of_ble_eq_true rfl)) dX2_order_167 (fun H locs hP hS => ?_)
                  refine lv_istore_n (lv' := [(3, .int v35), (0, .ref (E.1 1)), (1, .int x1), (2, .int x2)]) hx hb dX2_order_170 rfl hl (Nat.le_of_ble_eq_true rfl) rfl (fun ls hl => ?_)
                  refine jf_newC (ci := 12) (fs := [.int 0, .int 0, .int 0]) hx hb hts in_X15 tyX15_ok hown (hts _ q1175) (hts _ q1176) (hts _ q123) hV hP hS rfl (by decide) (Nat.le_trans (Nat.le_of_ble_eq_true rfl) hmc) (Nat.le_trans (Nat.le_of_ble_eq_true rfl) hms) dX2_order_171 (fun a37 H hP hS => ?_)
                  refine lv_dup hx hb dX2_order_174 rfl ?_
                  refine lv_iload_n hx hb dX2_order_175 rfl (lv_at hl 2 rfl) ?_
                  refine lv_iload_n hx hb dX2_order_176 rfl (lv_at hl 0 rfl) ?_
                  refine lv_aload_n hx hb dX2_order_177 rfl (lv_at hl 1 rfl) ?_
                  refine (jx_xb_some h).elim (fun gv38 => ?_) (fun gv38 => ?_)
                  · obtain ⟨v38, S39, ev38, h⟩ := gv38
                    refine jr_callI (out := (v38, S39)) hx hb hml hown hts hlv (jf_V_un hV) (jr_kind_met hfl ev38) jr_kind_g_X2 jr_kind_d (As := []) (Nat.le_of_ble_eq_true rfl) (Nat.le_of_ble_eq_true rfl) ⟨Nat.le_trans (Nat.le_of_ble_eq_true rfl) hmc, Nat.le_trans (Nat.le_of_ble_eq_true rfl) hms⟩ hP hS (ci := 2) jf_o1 rfl hl.1 rfl rfl (lv_room (Nat.le_of_ble_eq_true rfl)) dX2_order_178 (fun H locs hP hS => ?_)
                    refine jf_initC (ci := 12) (n := 3) (fs1 := [.int x1, .int v35, .int v38]) (As := [.int x1, .int v35, .int v38]) hx hb hml hown hts hlv hV jc_X15_X15 q1177 q123 q1178 q1179 ⟨rfl, by decide +kernel⟩ (Nat.le_of_ble_eq_true rfl) (Nat.le_of_ble_eq_true rfl) hP hS ⟨Nat.le_trans (Nat.le_of_ble_eq_true rfl) hmc, Nat.le_trans (Nat.le_of_ble_eq_true rfl) hms⟩ hl.1 rfl rfl (lv_room (Nat.le_of_ble_eq_true rfl)) dX2_order_181 (fun H locs hP hS => ?_)
                    have k40 : jf_sub pl (pl ++ [(a37, (.inr (12, [.int x1, .int v35, .int v38]) : va_E))]) := fun q hq => List.mem_append_left _ hq
                    have hsub := jf_sub.add (d := [(a37, (.inr (12, [.int x1, .int v35, .int v38]) : va_E))]) hsub
                    obtain ⟨t41, et41, h⟩ := jx_nx_some h
                    have pt41 : jo_Is (pl ++ [(a37, (.inr (12, [.int x1, .int v35, .int v38]) : va_E))]) a37 t41 := by rw [et41]; exact Or.inr (Or.inr (Or.inr (Or.inr (Or.inr (Or.inr (Or.inl ⟨rfl, List.mem_append_right _ List.mem_cons_self⟩))))))
                    refine jx_more (c1 := 40) (s1 := 200) (Nat.le_of_ble_eq_true rfl) (Nat.le_of_ble_eq_true rfl) ?_
                    exact jr_ret hx hb hr hlk hV hP hS hsub pt41 h dX2_order_184
                  · obtain ⟨v38, S39, ev38, ho⟩ := gv38
                    subst ho
                    refine jx_more (c1 := 39) (s1 := 194) (Nat.le_of_ble_eq_true rfl) (Nat.le_of_ble_eq_true rfl) ?_
                    exact jr_outV (E0 := E) (S1 := S39) (k := v38) hx hb hml hown hts hlv (jf_V_un hV) hV het hlk (jr_kind_met hfl ev38) jr_kind_g_X2 jr_kind_d (As := []) (Nat.le_of_ble_eq_true rfl) (Nat.le_of_ble_eq_true rfl) ⟨Nat.le_trans (Nat.le_of_ble_eq_true rfl) hmc, Nat.le_trans (Nat.le_of_ble_eq_true rfl) hms⟩ hsub (fun _ h => jf_P_un (h)) rfl hP hS (ci := 2) jf_o1 rfl hl.1 rfl rfl (lv_room (Nat.le_of_ble_eq_true rfl)) dX2_order_178
                · obtain ⟨v35, S36, ev35, ho⟩ := gv35
                  subst ho
                  refine jx_more (c1 := 39) (s1 := 194) (Nat.le_of_ble_eq_true rfl) (Nat.le_of_ble_eq_true rfl) ?_
                  exact jr_outV (E0 := E) (S1 := S36) (k := v35) hx hb hml hown hts hlv hV hV het hlk (jr_cell_met hfl ev35) jr_cell_g_X2 jr_cell_d (As := []) (Nat.le_of_ble_eq_true rfl) (Nat.le_of_ble_eq_true rfl) ⟨Nat.le_trans (Nat.le_of_ble_eq_true rfl) hmc, Nat.le_trans (Nat.le_of_ble_eq_true rfl) hms⟩ hsub (fun _ h => h) rfl hP hS (ci := 2) jf_o1 rfl hl.1 rfl rfl (lv_room (Nat.le_of_ble_eq_true rfl)) dX2_order_167
              · rw [if_neg sw31_6] at h
                by_cases sw31_7 : x2 = nI 7
                · rw [if_pos sw31_7] at h
                  refine lv_tableIn (tgt := 185) (off := 154) hx hb dX2_order_31 (by rw [sw31_7]; decide) (by rw [sw31_7]; decide) (by rw [sw31_7]; decide) rfl ?_
                  refine jf_newC (ci := 13) (fs := [.int 0]) hx hb hts in_X16 tyX16_ok hown (hts _ q1184) (hts _ q1185) (hts _ q124) hV hP hS rfl (by decide) (Nat.le_trans (Nat.le_of_ble_eq_true rfl) hmc) (Nat.le_trans (Nat.le_of_ble_eq_true rfl) hms) dX2_order_185 (fun a42 H hP hS => ?_)
                  refine lv_dup hx hb dX2_order_188 rfl ?_
                  refine lv_iload_n hx hb dX2_order_189 rfl (lv_at hl 1 rfl) ?_
                  refine jf_initC (ci := 13) (n := 1) (fs1 := [.int x1]) (As := [.int x1]) hx hb hml hown hts hlv hV jc_X16_X16 q1186 q124 q1187 q1188 ⟨rfl, by decide +kernel⟩ (Nat.le_of_ble_eq_true rfl) (Nat.le_of_ble_eq_true rfl) hP hS ⟨Nat.le_trans (Nat.le_of_ble_eq_true rfl) hmc, Nat.le_trans (Nat.le_of_ble_eq_true rfl) hms⟩ hl.1 rfl rfl (lv_room (Nat.le_of_ble_eq_true rfl)) dX2_order_190 (fun H locs hP hS => ?_)
                  have k43 : jf_sub pl (pl ++ [(a42, (.inr (13, [.int x1]) : va_E))]) := fun q hq => List.mem_append_left _ hq
                  have hsub := jf_sub.add (d := [(a42, (.inr (13, [.int x1]) : va_E))]) hsub
                  obtain ⟨t44, et44, h⟩ := jx_nx_some h
                  have pt44 : jo_Is (pl ++ [(a42, (.inr (13, [.int x1]) : va_E))]) a42 t44 := by rw [et44]; exact Or.inr (Or.inr (Or.inr (Or.inr (Or.inr (Or.inr (Or.inr (Or.inl ⟨rfl, List.mem_append_right _ List.mem_cons_self⟩)))))))
                  refine jx_more (c1 := 40) (s1 := 200) (Nat.le_of_ble_eq_true rfl) (Nat.le_of_ble_eq_true rfl) ?_
                  exact jr_ret hx hb hr hlk hV hP hS hsub pt44 h dX2_order_193
                · rw [if_neg sw31_7] at h
                  by_cases sw31_8 : x2 = nI 8
                  · rw [if_pos sw31_8] at h
                    refine lv_tableIn (tgt := 194) (off := 163) hx hb dX2_order_31 (by rw [sw31_8]; decide) (by rw [sw31_8]; decide) (by rw [sw31_8]; decide) rfl ?_
                    refine jf_newC (ci := 14) (fs := [.int 0, .null]) hx hb hts in_X17 tyX17_ok hown (hts _ q1192) (hts _ q1193) (hts _ q125) hV hP hS rfl (by decide) (Nat.le_trans (Nat.le_of_ble_eq_true rfl) hmc) (Nat.le_trans (Nat.le_of_ble_eq_true rfl) hms) dX2_order_194 (fun a45 H hP hS => ?_)
                    refine lv_dup hx hb dX2_order_197 rfl ?_
                    refine lv_iload_n hx hb dX2_order_198 rfl (lv_at hl 1 rfl) ?_
                    refine lv_aload_n hx hb dX2_order_199 rfl (lv_at hl 0 rfl) ?_
                    refine (jx_xb_some h).elim (fun gv46 => ?_) (fun gv46 => ?_)
                    · obtain ⟨v46, S47, ev46, h⟩ := gv46
                      refine jr_callA (v := v46) (S1 := S47) hx hb hml hown hts hlv (jf_V_un hV) (jr_atom_met hfl ev46) jr_atom_g_X2 jr_atom_d (As := []) (Nat.le_of_ble_eq_true rfl) (Nat.le_of_ble_eq_true rfl) ⟨Nat.le_trans (Nat.le_of_ble_eq_true rfl) hmc, Nat.le_trans (Nat.le_of_ble_eq_true rfl) hms⟩ hP hS (ci := 2) jf_o1 rfl hl.1 rfl rfl (lv_room (Nat.le_of_ble_eq_true rfl)) dX2_order_200 (fun pl48 v46a H locs k49 v46h hP hS => ?_)
                      have hsub := jf_sub.trans hsub k49
                      refine jf_initC (ci := 14) (n := 2) (fs1 := [.int x1, .ref v46a]) (As := [.int x1, .ref v46a]) hx hb hml hown hts hlv hV jc_X17_X17 q1194 q125 q1195 q1196 ⟨rfl, by decide +kernel⟩ (Nat.le_of_ble_eq_true rfl) (Nat.le_of_ble_eq_true rfl) hP hS ⟨Nat.le_trans (Nat.le_of_ble_eq_true rfl) hmc, Nat.le_trans (Nat.le_of_ble_eq_true rfl) hms⟩ hl.1 rfl rfl (lv_room (Nat.le_of_ble_eq_true rfl)) dX2_order_203 (fun H locs hP hS => ?_)
                      have k50 : jf_sub pl48 (pl48 ++ [(a45, (.inr (14, [.int x1, .ref v46a]) : va_E))]) := fun q hq => List.mem_append_left _ hq
                      have hsub := jf_sub.add (d := [(a45, (.inr (14, [.int x1, .ref v46a]) : va_E))]) hsub
                      obtain ⟨t51, et51, h⟩ := jx_nx_some h
                      have pt51 : jo_Is (pl48 ++ [(a45, (.inr (14, [.int x1, .ref v46a]) : va_E))]) a45 t51 := by rw [et51]; exact Or.inr (Or.inr (Or.inr (Or.inr (Or.inr (Or.inr (Or.inr (Or.inr (Or.inl ⟨rfl, v46a, List.mem_append_right _ List.mem_cons_self, (v46h.mono k50)⟩))))))))
                      refine jx_more (c1 := 40) (s1 := 200) (Nat.le_of_ble_eq_true rfl) (Nat.le_of_ble_eq_true rfl) ?_
                      exact jr_ret hx hb hr hlk hV hP hS hsub pt51 h dX2_order_206
                    · obtain ⟨v46, S47, ev46, ho⟩ := gv46
                      subst ho
                      refine jx_more (c1 := 32) (s1 := 160) (Nat.le_of_ble_eq_true rfl) (Nat.le_of_ble_eq_true rfl) ?_
                      exact jr_outA (E0 := E) (S1 := S47) (k := v46) hx hb hml hown hts hlv (jf_V_un hV) hV het hlk (jr_atom_met hfl ev46) jr_atom_g_X2 jr_atom_d (As := []) (Nat.le_of_ble_eq_true rfl) (Nat.le_of_ble_eq_true rfl) ⟨Nat.le_trans (Nat.le_of_ble_eq_true rfl) hmc, Nat.le_trans (Nat.le_of_ble_eq_true rfl) hms⟩ hsub (fun _ _ h => jf_P_un (h)) rfl hP hS (ci := 2) jf_o1 rfl hl.1 rfl rfl (lv_room (Nat.le_of_ble_eq_true rfl)) dX2_order_200
                  · rw [if_neg sw31_8] at h
                    by_cases sw31_9 : x2 = nI 9
                    · rw [if_pos sw31_9] at h
                      refine lv_tableIn (tgt := 207) (off := 176) hx hb dX2_order_31 (by rw [sw31_9]; decide) (by rw [sw31_9]; decide) (by rw [sw31_9]; decide) rfl ?_
                      refine jf_newC (ci := 15) (fs := [.int 0]) hx hb hts in_X18 tyX18_ok hown (hts _ q1204) (hts _ q1205) (hts _ q126) hV hP hS rfl (by decide) (Nat.le_trans (Nat.le_of_ble_eq_true rfl) hmc) (Nat.le_trans (Nat.le_of_ble_eq_true rfl) hms) dX2_order_207 (fun a52 H hP hS => ?_)
                      refine lv_dup hx hb dX2_order_210 rfl ?_
                      refine lv_iload_n hx hb dX2_order_211 rfl (lv_at hl 1 rfl) ?_
                      refine jf_initC (ci := 15) (n := 1) (fs1 := [.int x1]) (As := [.int x1]) hx hb hml hown hts hlv hV jc_X18_X18 q1206 q126 q1207 q1208 ⟨rfl, by decide +kernel⟩ (Nat.le_of_ble_eq_true rfl) (Nat.le_of_ble_eq_true rfl) hP hS ⟨Nat.le_trans (Nat.le_of_ble_eq_true rfl) hmc, Nat.le_trans (Nat.le_of_ble_eq_true rfl) hms⟩ hl.1 rfl rfl (lv_room (Nat.le_of_ble_eq_true rfl)) dX2_order_212 (fun H locs hP hS => ?_)
                      have k53 : jf_sub pl (pl ++ [(a52, (.inr (15, [.int x1]) : va_E))]) := fun q hq => List.mem_append_left _ hq
                      have hsub := jf_sub.add (d := [(a52, (.inr (15, [.int x1]) : va_E))]) hsub
                      obtain ⟨t54, et54, h⟩ := jx_nx_some h
                      have pt54 : jo_Is (pl ++ [(a52, (.inr (15, [.int x1]) : va_E))]) a52 t54 := by rw [et54]; exact Or.inr (Or.inr (Or.inr (Or.inr (Or.inr (Or.inr (Or.inr (Or.inr (Or.inr (⟨rfl, List.mem_append_right _ List.mem_cons_self⟩)))))))))
                      refine jx_more (c1 := 40) (s1 := 200) (Nat.le_of_ble_eq_true rfl) (Nat.le_of_ble_eq_true rfl) ?_
                      exact jr_ret hx hb hr hlk hV hP hS hsub pt54 h dX2_order_215
                    · rw [if_neg sw31_9] at h
                      refine lv_tableOut (tgt := 216) hx hb dX2_order_31 (jx_sw10 sw31_0 sw31_1 sw31_2 sw31_3 sw31_4 sw31_5 sw31_6 sw31_7 sw31_8 sw31_9) rfl ?_
                      refine lv_aload_n hx hb dX2_order_216 rfl (lv_at hl 0 rfl) ?_
                      refine lv_aload_n hx hb dX2_order_217 rfl (lv_at hl 0 rfl) ?_
                      refine jf_get hx hb hts in_X2 hown hV hP (ci := 2) (k := 6) jf_o1 rfl (by decide) (hts _ q248) rfl rfl dX2_order_218 ?_
                      refine (jx_xb_some h).elim (fun gv55 => ?_) (fun gv55 => ?_)
                      · obtain ⟨v55, S56, ev55, h⟩ := gv55
                        refine jr_callV (out := S56) hx hb hml hown hts hlv hV (jr_fail_met hfl ev55) jr_fail_g_X2 jr_fail_d (As := [.int (S.1 1 6)]) (Nat.le_of_ble_eq_true rfl) (Nat.le_of_ble_eq_true rfl) ⟨Nat.le_trans (Nat.le_of_ble_eq_true rfl) hmc, Nat.le_trans (Nat.le_of_ble_eq_true rfl) hms⟩ hP hS (ci := 2) jf_o1 rfl hl.1 rfl rfl (lv_room (Nat.le_of_ble_eq_true rfl)) dX2_order_221 (fun H locs hP hS => ?_)
                        refine lv_null hx hb dX2_order_224 ?_
                        refine jx_more (c1 := 40) (s1 := 200) (Nat.le_of_ble_eq_true rfl) (Nat.le_of_ble_eq_true rfl) ?_
                        cases h
                      · obtain ⟨v55, S56, ev55, ho⟩ := gv55
                        subst ho
                        refine jx_more (c1 := 39) (s1 := 194) (Nat.le_of_ble_eq_true rfl) (Nat.le_of_ble_eq_true rfl) ?_
                        exact jr_outV (E0 := E) (S1 := S56) (k := v55) hx hb hml hown hts hlv hV hV het hlk (jr_fail_met hfl ev55) jr_fail_g_X2 jr_fail_d (As := [.int (S.1 1 6)]) (Nat.le_of_ble_eq_true rfl) (Nat.le_of_ble_eq_true rfl) ⟨Nat.le_trans (Nat.le_of_ble_eq_true rfl) hmc, Nat.le_trans (Nat.le_of_ble_eq_true rfl) hms⟩ hsub (fun _ h => h) rfl hP hS (ci := 2) jf_o1 rfl hl.1 rfl rfl (lv_room (Nat.le_of_ble_eq_true rfl)) dX2_order_221
theorem jr_order_L2_ok {out : (jo_R ⊕ Nat) × jf_S} (hX : jr_Ok RX2 l p R s m args meth c A D E cX2_order 4 (some (.object "JumpFence$Order")) 10 40 200) (F : Nat) (hsub : jf_sub pl0 pl) {r2 : Int32 × Int32 × jf_S → Option ((jo_R ⊕ Nat) × jf_S)} (hr2 : ∀ a, r2 a = some out → jr_J p l e R s m args below meth c A D E fo pl 4 0 0 (jr_Q jo_Is below args s A D E fo pl0 40 200 out) 2 [(0, .ref (E.1 1)), (1, .int a.1), (2, .int a.2.1)] [] a.2.2) (x1 : Int32) (x2 : Int32) (S : jf_S) (h : jr_order_L2 F r2 x1 x2 S = some out) : jr_J p l e R s m args below meth c A D E fo pl 4 0 0 (jr_Q jo_Is below args s A D E fo pl0 40 200 out) 2 [(0, .ref (E.1 1)), (1, .int x1), (2, .int x2)] [] S := by
  intro H locs ls hP hS hl
  have hX0 := hX
  obtain ⟨⟨hx, hb, hml, hown, hts, hlk, hr, hlv, hV, het⟩, hfl, hmc, hms⟩ := hX0
  unfold jr_order_L2 at h
  refine lv_iload_n hx hb dX2_order_2 rfl (lv_at hl 2 rfl) ?_
  refine lv_aload_n hx hb dX2_order_3 rfl (lv_at hl 0 rfl) ?_
  refine jf_get hx hb hts in_X2 hown hV hP (ci := 2) (k := 1) jf_o1 rfl (by decide) (hts _ q242) rfl rfl dX2_order_4 ?_
  refine jf_slenA hx hb hV hP dX2_order_7 ?_
  refine lv_icmp_ge (tgt := 30) hx hb dX2_order_8 rfl (fun c1 => ?_) (fun c1 => ?_)
  · rw [if_pos c1] at h
    exact jr_order_b30_ok hX F hsub _ _ _ h _ _ _ hP hS hl
  · rw [if_neg c1] at h
    refine lv_aload_n hx hb dX2_order_11 rfl (lv_at hl 0 rfl) ?_
    refine lv_aload_n hx hb dX2_order_12 rfl (lv_at hl 0 rfl) ?_
    refine jf_get hx hb hts in_X2 hown hV hP (ci := 2) (k := 1) jf_o1 rfl (by decide) (hts _ q242) rfl rfl dX2_order_13 ?_
    refine lv_iload_n hx hb dX2_order_16 rfl (lv_at hl 2 rfl) ?_
    obtain ⟨j2, ej2, bj2, h⟩ := jx_ga_some h
    refine jf_sald hx hb hV hP ej2 bj2 dX2_order_17 ?_
    obtain ⟨v3, ev3, h⟩ := jx_bi_some h
    refine jr_callI hx hb hml hown hts hlv hV (jr_takes_met ev3) jr_takes_g_X2 jr_takes_d (As := [.ref (E.2.2.2.1 j2)]) (Nat.le_of_ble_eq_true rfl) (Nat.le_of_ble_eq_true rfl) ⟨Nat.le_trans (Nat.le_of_ble_eq_true rfl) hmc, Nat.le_trans (Nat.le_of_ble_eq_true rfl) hms⟩ hP hS (ci := 2) jf_o1 rfl hl.1 rfl rfl (lv_room (Nat.le_of_ble_eq_true rfl)) dX2_order_18 (fun H locs hP hS => ?_)
    refine lv_if_ne (tgt := 30) hx hb dX2_order_21 rfl (fun c5 => ?_) (fun c5 => ?_)
    · rw [if_neg c5] at h
      exact jr_order_b30_ok hX F hsub _ _ _ h _ _ _ hP hS hl
    · rw [if_pos c5] at h
      obtain ⟨y6, ey6, h⟩ := jx_nx_some h
      refine lv_iinc (v := y6) (lv' := [(2, .int y6), (0, .ref (E.1 1)), (1, .int x1)]) hx hb dX2_order_24 hl (k := 2) rfl (jx_inc jx_ki1 ey6) (Nat.le_of_ble_eq_true rfl) rfl (fun ls hl => ?_)
      refine lv_goto (tgt := 2) hx hb dX2_order_27 rfl ?_
      exact hr2 _ h _ _ _ hP hS (lv_sub hl [1, 2, 0] rfl)
theorem jr_order_h2_ok {out : (jo_R ⊕ Nat) × jf_S} (hX : jr_Ok RX2 l p R s m args meth c A D E cX2_order 4 (some (.object "JumpFence$Order")) 10 40 200) (F : Nat) (hsub : jf_sub pl0 pl) (n : Nat) (a : Int32 × Int32 × jf_S) (h : jr_order_h2 F n a = some out) : jr_J p l e R s m args below meth c A D E fo pl 4 0 0 (jr_Q jo_Is below args s A D E fo pl0 40 200 out) 2 [(0, .ref (E.1 1)), (1, .int a.1), (2, .int a.2.1)] [] a.2.2 :=
  jx_loop_ind (J := fun a => jr_J p l e R s m args below meth c A D E fo pl 4 0 0 (jr_Q jo_Is below args s A D E fo pl0 40 200 out) 2 [(0, .ref (E.1 1)), (1, .int a.1), (2, .int a.2.1)] [] a.2.2) (fun r hr a h => jr_order_L2_ok hX F hsub hr a.1 a.2.1 a.2.2 h) n a h
theorem jr_order_ok {out : (jo_R ⊕ Nat) × jf_S} (hX : jr_Ok RX2 l p R s m args meth c A D E cX2_order 4 (some (.object "JumpFence$Order")) 10 40 200) (F : Nat) (hsub : jf_sub pl0 pl) (x1 : Int32) (S : jf_S) (h : jr_order F x1 S = some out) : jr_J p l e R s m args below meth c A D E fo pl 4 0 0 (jr_Q jo_Is below args s A D E fo pl0 40 200 out) 0 [(0, .ref (E.1 1)), (1, .int x1)] [] S := by
  intro H locs ls hP hS hl
  have hX0 := hX
  obtain ⟨⟨hx, hb, hml, hown, hts, hlk, hr, hlv, hV, het⟩, hfl, hmc, hms⟩ := hX0
  unfold jr_order at h
  refine lv_iconst hx hb dX2_order_0 jx_ki0 ?_
  obtain ⟨y1, ey1, h⟩ := jx_nx_some h
  refine jx_topi ey1 ?_
  refine lv_istore_n (lv' := [(2, .int y1), (0, .ref (E.1 1)), (1, .int x1)]) hx hb dX2_order_1 rfl hl (Nat.le_of_ble_eq_true rfl) rfl (fun ls hl => ?_)
  exact jr_order_h2_ok hX F hsub F _ h _ _ _ hP hS (lv_sub hl [1, 2, 0] rfl)
theorem jr_order_met {l : Launch} {D : va_G} {E : jf_E} {A : Nat → Prop} {fo : Nat → Nat → Option Nat} {pl : va_W} {F : Nat} (hfl : l.flags = flags0) {x1 : Int32} {S : jf_S} {out : (jo_R ⊕ Nat) × jf_S} (h : jr_order F x1 S = some out) : jr_M jo_Is l D E A fo pl yX2_order cX2_order 4 (some (.object "JumpFence$Order")) 10 40 200 [.ref (E.1 1), .int x1] S out :=
  jr_M_of hfl (own := RX2) ⟨by decide, rfl, Nat.le_of_ble_eq_true rfl⟩ (fun hX => jr_order_ok hX F jf_sub.rf x1 S h)
end

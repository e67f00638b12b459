set_option maxRecDepth 100000
set_option maxHeartbeats 4000000
section
variable {p : Program} {l : Launch} {e : Env} {R : Room} {s : State} {m : MethodId} {args : Array Value} {below : List Frame} {meth : Method} {c : Code} {A : Nat → Prop} {D : va_G} {E : jf_E} {fo : Nat → Nat → Option Nat} {pl : va_W} {lv : Nat} {H : Heap} {locs : List Loc} {Q : State → Prop} {pc : Nat} {ls : Array Slot} {rest : List Value} {cc : ByteArray} {S : jf_S}
theorem jk_puts_g_X14 : GoodIn lw_all (wsV RX14 28 RX5 yX5_puts (ws_ yX5_puts cX5_puts 2 none)) := lw_V q639 q632 q633 q109 q634
theorem jk_puts_g_X15 : GoodIn lw_all (wsV RX15 30 RX5 yX5_puts (ws_ yX5_puts cX5_puts 2 none)) := lw_V q631 q632 q633 q109 q634
theorem jk_puts_d : yX5_puts.cls = RX5 ∧ yX5_puts.cls ≠ "java/lang/invoke/MethodHandle" ∧ yX5_puts.cls ≠ "java/lang/invoke/VarHandle" ∧ (parseMethodDescriptor yX5_puts.desc).map (fun d => d.parameters.length) = some 1 := by decide +kernel
theorem jk_puts_ok {out : jf_S} (hX : jf_Ok RX5 p R s m args meth c A D E cX5_puts 2 none 0) (F : Nat) (x1 : Int32) (S : jf_S) (h : jk_puts F x1 S = some out) : jf_J p l e R s m args below meth c A D E fo pl 2 (jf_Qv below args s A D E fo pl out) 0 [(0, .ref (E.1 5)), (1, .int x1)] [] S := by
  intro H locs ls hP hS hl
  have hX0 := hX
  obtain ⟨hx, hb, hml, hown, hts, hlk, hr, hlv, hV, het⟩ := hX0
  unfold jk_puts at h
  refine lv_aload_n hx hb dX5_puts_0 rfl (lv_at hl 0 rfl) ?_
  refine jf_get hx hb hts in_X5 hown hV hP (ci := 4) (k := 3) jf_o5 rfl (by decide) (hts _ q377) rfl rfl dX5_puts_1 ?_
  refine lv_aload_n hx hb dX5_puts_4 rfl (lv_at hl 0 rfl) ?_
  refine jf_get hx hb hts in_X5 hown hV hP (ci := 4) (k := 8) jf_o5 rfl (by decide) (hts _ q387) rfl rfl dX5_puts_5 ?_
  refine lv_iload_n hx hb dX5_puts_8 rfl (lv_at hl 1 rfl) ?_
  obtain ⟨j1, ej1, bj1, h⟩ := jx_ga_some h
  obtain ⟨S2, eS2, h⟩ := jx_nx_some h
  refine jf_iast hx hb hV hP hS jf_a5_3 ej1 bj1 eS2 dX5_puts_9 (fun H locs hP hS => ?_)
  refine lv_aload_n hx hb dX5_puts_10 rfl (lv_at hl 0 rfl) ?_
  refine jf_get hx hb hts in_X5 hown hV hP (ci := 4) (k := 4) jf_o5 rfl (by decide) (hts _ q380) rfl rfl dX5_puts_11 ?_
  refine lv_aload_n hx hb dX5_puts_14 rfl (lv_at hl 0 rfl) ?_
  refine jf_get hx hb hts in_X5 hown hV hP (ci := 4) (k := 8) jf_o5 rfl (by decide) (hts _ q387) rfl rfl dX5_puts_15 ?_
  refine lv_iload_n hx hb dX5_puts_18 rfl (lv_at hl 1 rfl) ?_
  obtain ⟨j3, ej3, bj3, h⟩ := jx_ga_some h
  obtain ⟨S4, eS4, h⟩ := jx_nx_some h
  refine jf_iast hx hb hV hP hS jf_a5_4 ej3 bj3 eS4 dX5_puts_19 (fun H locs hP hS => ?_)
  refine lv_aload_n hx hb dX5_puts_20 rfl (lv_at hl 0 rfl) ?_
  refine jf_get hx hb hts in_X5 hown hV hP (ci := 4) (k := 5) jf_o5 rfl (by decide) (hts _ q382) rfl rfl dX5_puts_21 ?_
  refine lv_aload_n hx hb dX5_puts_24 rfl (lv_at hl 0 rfl) ?_
  refine jf_get hx hb hts in_X5 hown hV hP (ci := 4) (k := 8) jf_o5 rfl (by decide) (hts _ q387) rfl rfl dX5_puts_25 ?_
  refine lv_iconst hx hb dX5_puts_28 jx_kim1 ?_
  obtain ⟨j5, ej5, bj5, h⟩ := jx_ga_some h
  obtain ⟨S6, eS6, h⟩ := jx_nx_some h
  refine jf_iast hx hb hV hP hS jf_a5_5 ej5 bj5 eS6 dX5_puts_29 (fun H locs hP hS => ?_)
  refine lv_aload_n hx hb dX5_puts_30 rfl (lv_at hl 0 rfl) ?_
  refine lv_dup hx hb dX5_puts_31 rfl ?_
  refine jf_get hx hb hts in_X5 hown hV hP (ci := 4) (k := 8) jf_o5 rfl (by decide) (hts _ q387) rfl rfl dX5_puts_32 ?_
  refine lv_iconst hx hb dX5_puts_35 jx_ki1 ?_
  refine lv_iadd hx hb dX5_puts_36 ?_
  obtain ⟨S7, eS7, h⟩ := jx_nx_some h
  refine jf_put (S1 := S7) hx hb hts in_X5 tyX5_ok nmX5 hown hV hP hS (ci := 4) (k := 8) (by rw [eS7]; rfl) jf_o5 (by rw [eS7]; exact jf_s5_8 _) rfl (by decide) (hts _ q387) rfl rfl (tyX5_ok 8 (by decide)) ⟨rfl, rfl⟩ (Nat.le_of_ble_eq_true rfl) dX5_puts_37 (fun H locs hP hS => ?_)
  exact jf_vret hx hb hr hlk hV hP hS h dX5_puts_40
theorem jk_puts_met {l : Launch} {D : va_G} {E : jf_E} {A : Nat → Prop} {fo : Nat → Nat → Option Nat} {pl : va_W} {F : Nat} {x1 : Int32} {S : jf_S} {out : jf_S} (h : jk_puts F x1 S = some out) : jf_Mv l D E A fo pl yX5_puts cX5_puts 2 none 0 [.ref (E.1 5), .int x1] S out :=
  jf_Mv_of (own := RX5) ⟨by decide, rfl, Nat.le_of_ble_eq_true rfl⟩ (fun hX => jk_puts_ok hX F x1 S h)
theorem jo14_does_d : yX14_does.cls = RX14 ∧ yX14_does.cls ≠ "java/lang/invoke/MethodHandle" ∧ yX14_does.cls ≠ "java/lang/invoke/VarHandle" ∧ (parseMethodDescriptor yX14_does.desc).map (fun d => d.parameters.length) = some 2 := by decide +kernel
theorem jo14_does_ok {out : Int32 × jf_S} (hX : jf_Ok RX14 p R s m args meth c A D E cX14_does 3 (some .int) 1) (F : Nat) (x0 : jo_R) {x0a : Nat} (x0h : jo_m5 pl x0a x0) (x2 : Int32) (S : jf_S) (h : jo14_does F x0 x2 S = some out) : jf_J p l e R s m args below meth c A D E fo pl 3 (jf_Qi below args s A D E fo pl out) 0 [(0, .ref x0a), (1, .ref (E.1 5)), (2, .int x2)] [] S := by
  intro H locs ls hP hS hl
  have hX0 := hX
  obtain ⟨hx, hb, hml, hown, hts, hlk, hr, hlv, hV, het⟩ := hX0
  unfold jo14_does at h
  refine lv_aload_n hx hb dX14_does_0 rfl (lv_at hl 1 rfl) ?_
  refine jf_getN hx hb hts in_X5 hown hV hP (ci := 4) (k := 8) jf_o5 rfl (by decide) (jf_l_X14_19 hV.2.2.1) rfl rfl dX14_does_1 ?_
  refine lv_bipush hx hb dX14_does_4 jx_kb8 ?_
  refine lv_icmp_ne (tgt := 14) hx hb dX14_does_6 rfl (fun c1 => ?_) (fun c1 => ?_)
  · rw [if_neg c1] at h
    refine lv_aload_n hx hb dX14_does_14 rfl (lv_at hl 1 rfl) ?_
    refine lv_iload_n hx hb dX14_does_15 rfl (lv_at hl 2 rfl) ?_
    refine lv_iconst hx hb dX14_does_16 jx_ki1 ?_
    refine lv_iadd hx hb dX14_does_17 ?_
    obtain ⟨q2, eq2, h⟩ := jx_bi_some h
    refine jf_callV hx hb hml hown hts hlv hV (jk_puts_met eq2) jk_puts_g_X14 jk_puts_d (As := [.int (x2 + (nI 1))]) (Nat.le_of_ble_eq_true rfl) (Nat.le_of_ble_eq_true rfl) hP hS (ci := 4) jf_o5 rfl hl.1 rfl rfl (lv_room (Nat.le_of_ble_eq_true rfl)) dX14_does_18 (fun H locs hP hS => ?_)
    refine lv_aload_n hx hb dX14_does_21 rfl (lv_at hl 0 rfl) ?_
    obtain ⟨q3, hq3⟩ := jf_pool (E := E) (S := q2) (fo := fo) x0h
    refine jf_get hx hb hts in_X14 hown hV hP (ci := 11) (k := 1) hq3 rfl (by decide) (hts _ q1170) rfl rfl dX14_does_22 ?_
    exact jf_iret hx hb hr hlk hV hP hS h dX14_does_25
  · rw [if_pos c1] at h
    refine lv_aload_n hx hb dX14_does_9 rfl (lv_at hl 1 rfl) ?_
    obtain ⟨q4, eq4, h⟩ := jx_bi_some h
    refine jf_callI hx hb hml hown hts hlv hV (jk_trap_met eq4) jk_trap_g_X14 jk_trap_d (As := []) (Nat.le_of_ble_eq_true rfl) (Nat.le_of_ble_eq_true rfl) hP hS (ci := 4) jf_o5 rfl hl.1 rfl rfl (lv_room (Nat.le_of_ble_eq_true rfl)) dX14_does_10 (fun H locs hP hS => ?_)
    exact jf_iret hx hb hr hlk hV hP hS h dX14_does_13
theorem jo14_does_met {l : Launch} {D : va_G} {E : jf_E} {A : Nat → Prop} {fo : Nat → Nat → Option Nat} {pl : va_W} {F : Nat} {x0 : jo_R} {x0a : Nat} (x0h : jo_m5 pl x0a x0) {x2 : Int32} {S : jf_S} {out : Int32 × jf_S} (h : jo14_does F x0 x2 S = some out) : jf_Mi l D E A fo pl yX14_does cX14_does 3 (some .int) 1 [.ref x0a, .ref (E.1 5), .int x2] S out :=
  jf_Mi_of (own := RX14) ⟨by decide, rfl, Nat.le_of_ble_eq_true rfl⟩ (fun hX => jo14_does_ok hX F x0 x0h x2 S h)
theorem jo15_does_d : yX15_does.cls = RX15 ∧ yX15_does.cls ≠ "java/lang/invoke/MethodHandle" ∧ yX15_does.cls ≠ "java/lang/invoke/VarHandle" ∧ (parseMethodDescriptor yX15_does.desc).map (fun d => d.parameters.length) = some 2 := by decide +kernel
theorem jo15_does_ok {out : Int32 × jf_S} (hX : jf_Ok RX15 p R s m args meth c A D E cX15_does 4 (some .int) 5) (F : Nat) (x0 : jo_R) {x0a : Nat} (x0h : jo_m6 pl x0a x0) (x2 : Int32) (S : jf_S) (h : jo15_does F x0 x2 S = some out) : jf_J p l e R s m args below meth c A D E fo pl 4 (jf_Qi below args s A D E fo pl out) 0 [(0, .ref x0a), (1, .ref (E.1 5)), (2, .int x2)] [] S := by
  intro H locs ls hP hS hl
  have hX0 := hX
  obtain ⟨hx, hb, hml, hown, hts, hlk, hr, hlv, hV, het⟩ := hX0
  unfold jo15_does at h
  refine lv_aload_n hx hb dX15_does_0 rfl (lv_at hl 1 rfl) ?_
  refine jf_getN hx hb hts in_X5 hown hV hP (ci := 4) (k := 8) jf_o5 rfl (by decide) (jf_l_X15_13 hV.2.2.1) rfl rfl dX15_does_1 ?_
  refine lv_bipush hx hb dX15_does_4 jx_kb8 ?_
  refine lv_icmp_ne (tgt := 14) hx hb dX15_does_6 rfl (fun c1 => ?_) (fun c1 => ?_)
  · rw [if_neg c1] at h
    refine lv_aload_n hx hb dX15_does_14 rfl (lv_at hl 0 rfl) ?_
    refine lv_aload_n hx hb dX15_does_15 rfl (lv_at hl 1 rfl) ?_
    refine lv_iload_n hx hb dX15_does_16 rfl (lv_at hl 2 rfl) ?_
    obtain ⟨q2, eq2, h⟩ := jx_bi_some h
    refine jf_callSup hx hb hml hown hts hlv hV (jo13_does_met (Or.inr x0h) eq2) (Nat.le_of_ble_eq_true rfl) hP hS x0h hl.1 rfl rfl (lv_room (Nat.le_of_ble_eq_true rfl)) dX15_does_17 (fun H locs hP hS => ?_)
    obtain ⟨y3, ey3, h⟩ := jx_nx_some h
    refine jx_topi ey3 ?_
    refine lv_istore_n (lv' := [(3, .int y3), (0, .ref x0a), (1, .ref (E.1 5)), (2, .int x2)]) hx hb dX15_does_20 rfl hl (Nat.le_of_ble_eq_true rfl) rfl (fun ls hl => ?_)
    refine lv_aload_n hx hb dX15_does_21 rfl (lv_at hl 2 rfl) ?_
    refine jf_getN hx hb hts in_X5 hown hV hP (ci := 4) (k := 14) jf_o5 rfl (by decide) (jf_l_X15_27 hV.2.2.1) rfl rfl dX15_does_22 ?_
    refine lv_iconst hx hb dX15_does_25 jx_ki4 ?_
    refine lv_icmp_ne (tgt := 36) hx hb dX15_does_26 rfl (fun c4 => ?_) (fun c4 => ?_)
    · rw [if_neg c4] at h
      refine lv_iload_n hx hb dX15_does_36 rfl (lv_at hl 0 rfl) ?_
      exact jf_iret hx hb hr hlk hV hP hS h dX15_does_37
    · rw [if_pos c4] at h
      refine lv_aload_n hx hb dX15_does_29 rfl (lv_at hl 2 rfl) ?_
      refine lv_iload_n hx hb dX15_does_30 rfl (lv_at hl 3 rfl) ?_
      refine lv_iconst hx hb dX15_does_31 jx_ki1 ?_
      refine lv_iadd hx hb dX15_does_32 ?_
      obtain ⟨q5, eq5, h⟩ := jx_bi_some h
      refine jf_callV hx hb hml hown hts hlv hV (jk_puts_met eq5) jk_puts_g_X15 jk_puts_d (As := [.int (x2 + (nI 1))]) (Nat.le_of_ble_eq_true rfl) (Nat.le_of_ble_eq_true rfl) hP hS (ci := 4) jf_o5 rfl hl.1 rfl rfl (lv_room (Nat.le_of_ble_eq_true rfl)) dX15_does_33 (fun H locs hP hS => ?_)
      refine lv_iload_n hx hb dX15_does_36 rfl (lv_at hl 0 rfl) ?_
      exact jf_iret hx hb hr hlk hV hP hS h dX15_does_37
  · rw [if_pos c1] at h
    refine lv_aload_n hx hb dX15_does_9 rfl (lv_at hl 1 rfl) ?_
    obtain ⟨q6, eq6, h⟩ := jx_bi_some h
    refine jf_callI hx hb hml hown hts hlv hV (jk_trap_met eq6) jk_trap_g_X15 jk_trap_d (As := []) (Nat.le_of_ble_eq_true rfl) (Nat.le_of_ble_eq_true rfl) hP hS (ci := 4) jf_o5 rfl hl.1 rfl rfl (lv_room (Nat.le_of_ble_eq_true rfl)) dX15_does_10 (fun H locs hP hS => ?_)
    exact jf_iret hx hb hr hlk hV hP hS h dX15_does_13
theorem jo15_does_met {l : Launch} {D : va_G} {E : jf_E} {A : Nat → Prop} {fo : Nat → Nat → Option Nat} {pl : va_W} {F : Nat} {x0 : jo_R} {x0a : Nat} (x0h : jo_m6 pl x0a x0) {x2 : Int32} {S : jf_S} {out : Int32 × jf_S} (h : jo15_does F x0 x2 S = some out) : jf_Mi l D E A fo pl yX15_does cX15_does 4 (some .int) 5 [.ref x0a, .ref (E.1 5), .int x2] S out :=
  jf_Mi_of (own := RX15) ⟨by decide, rfl, Nat.le_of_ble_eq_true rfl⟩ (fun hX => jo15_does_ok hX F x0 x0h x2 S h)
theorem jo16_does_d : yX16_does.cls = RX16 ∧ yX16_does.cls ≠ "java/lang/invoke/MethodHandle" ∧ yX16_does.cls ≠ "java/lang/invoke/VarHandle" ∧ (parseMethodDescriptor yX16_does.desc).map (fun d => d.parameters.length) = some 2 := by decide +kernel
theorem jo16_does_ok {out : Int32 × jf_S} (hX : jf_Ok RX16 p R s m args meth c A D E cX16_does 4 (some .int) 4) (F : Nat) (x0 : jo_R) {x0a : Nat} (x0h : jo_m7 pl x0a x0) (x2 : Int32) (S : jf_S) (h : jo16_does F x0 x2 S = some out) : jf_J p l e R s m args below meth c A D E fo pl 4 (jf_Qi below args s A D E fo pl out) 0 [(0, .ref x0a), (1, .ref (E.1 5)), (2, .int x2)] [] S := by
  intro H locs ls hP hS hl
  have hX0 := hX
  obtain ⟨hx, hb, hml, hown, hts, hlk, hr, hlv, hV, het⟩ := hX0
  unfold jo16_does at h
  refine lv_aload_n hx hb dX16_does_0 rfl (lv_at hl 1 rfl) ?_
  refine jf_getN hx hb hts in_X5 hown hV hP (ci := 4) (k := 8) jf_o5 rfl (by decide) (jf_l_X16_19 hV.2.2.1) rfl rfl dX16_does_1 ?_
  refine lv_if_ne (tgt := 12) hx hb dX16_does_4 rfl (fun c1 => ?_) (fun c1 => ?_)
  · rw [if_neg c1] at h
    refine lv_aload_n hx hb dX16_does_12 rfl (lv_at hl 1 rfl) ?_
    refine lv_iload_n hx hb dX16_does_13 rfl (lv_at hl 2 rfl) ?_
    refine lv_aload_n hx hb dX16_does_14 rfl (lv_at hl 1 rfl) ?_
    refine jf_getN hx hb hts in_X5 hown hV hP (ci := 4) (k := 3) jf_o5 rfl (by decide) (jf_l_X16_29 hV.2.2.1) rfl rfl dX16_does_15 ?_
    refine lv_aload_n hx hb dX16_does_18 rfl (lv_at hl 1 rfl) ?_
    refine jf_getN hx hb hts in_X5 hown hV hP (ci := 4) (k := 8) jf_o5 rfl (by decide) (jf_l_X16_19 hV.2.2.1) rfl rfl dX16_does_19 ?_
    refine lv_iconst hx hb dX16_does_22 jx_ki1 ?_
    refine lv_isub hx hb dX16_does_23 ?_
    obtain ⟨j2, ej2, bj2, h⟩ := jx_ga_some h
    refine jf_iald hx hb hV hP jf_a5_3 ej2 bj2 dX16_does_24 ?_
    obtain ⟨q3, eq3, h⟩ := jx_bi_some h
    refine jf_callI hx hb hml hown hts hlv hV (jk_lands_met eq3) jk_lands_g_X16 jk_lands_d (As := [.int x2, .int (S.2.2.1 5 3 j2)]) (Nat.le_of_ble_eq_true rfl) (Nat.le_of_ble_eq_true rfl) hP hS (ci := 4) jf_o5 rfl hl.1 rfl rfl (lv_room (Nat.le_of_ble_eq_true rfl)) dX16_does_25 (fun H locs hP hS => ?_)
    obtain ⟨y4, ey4, h⟩ := jx_nx_some h
    refine jx_topi ey4 ?_
    refine lv_istore_n (lv' := [(3, .int y4), (0, .ref x0a), (1, .ref (E.1 5)), (2, .int x2)]) hx hb dX16_does_28 rfl hl (Nat.le_of_ble_eq_true rfl) rfl (fun ls hl => ?_)
    refine lv_aload_n hx hb dX16_does_29 rfl (lv_at hl 2 rfl) ?_
    refine jf_getN hx hb hts in_X5 hown hV hP (ci := 4) (k := 14) jf_o5 rfl (by decide) (jf_l_X16_37 hV.2.2.1) rfl rfl dX16_does_30 ?_
    refine lv_iconst hx hb dX16_does_33 jx_ki4 ?_
    refine lv_icmp_ne (tgt := 47) hx hb dX16_does_34 rfl (fun c5 => ?_) (fun c5 => ?_)
    · rw [if_neg c5] at h
      refine lv_iload_n hx hb dX16_does_47 rfl (lv_at hl 0 rfl) ?_
      exact jf_iret hx hb hr hlk hV hP hS h dX16_does_48
    · rw [if_pos c5] at h
      refine lv_aload_n hx hb dX16_does_37 rfl (lv_at hl 2 rfl) ?_
      refine lv_dup hx hb dX16_does_38 rfl ?_
      refine jf_getN hx hb hts in_X5 hown hV hP (ci := 4) (k := 8) jf_o5 rfl (by decide) (jf_l_X16_19 hV.2.2.1) rfl rfl dX16_does_39 ?_
      refine lv_iconst hx hb dX16_does_42 jx_ki1 ?_
      refine lv_isub hx hb dX16_does_43 ?_
      obtain ⟨S6, eS6, h⟩ := jx_nx_some h
      refine jf_putN (S1 := S6) hx hb hts in_X5 tyX5_ok nmX5 hown hV hP hS (ci := 4) (k := 8) (by rw [eS6]; rfl) jf_o5 (by rw [eS6]; exact jf_s5_8 _) rfl (by decide) (jf_l_X16_19 hV.2.2.1) rfl rfl (tyX5_ok 8 (by decide)) ⟨rfl, rfl⟩ (Nat.le_of_ble_eq_true rfl) dX16_does_44 (fun H locs hP hS => ?_)
      refine lv_iload_n hx hb dX16_does_47 rfl (lv_at hl 0 rfl) ?_
      exact jf_iret hx hb hr hlk hV hP hS h dX16_does_48
  · rw [if_pos c1] at h
    refine lv_aload_n hx hb dX16_does_7 rfl (lv_at hl 1 rfl) ?_
    obtain ⟨q7, eq7, h⟩ := jx_bi_some h
    refine jf_callI hx hb hml hown hts hlv hV (jk_trap_met eq7) jk_trap_g_X16 jk_trap_d (As := []) (Nat.le_of_ble_eq_true rfl) (Nat.le_of_ble_eq_true rfl) hP hS (ci := 4) jf_o5 rfl hl.1 rfl rfl (lv_room (Nat.le_of_ble_eq_true rfl)) dX16_does_8 (fun H locs hP hS => ?_)
    exact jf_iret hx hb hr hlk hV hP hS h dX16_does_11
theorem jo16_does_met {l : Launch} {D : va_G} {E : jf_E} {A : Nat → Prop} {fo : Nat → Nat → Option Nat} {pl : va_W} {F : Nat} {x0 : jo_R} {x0a : Nat} (x0h : jo_m7 pl x0a x0) {x2 : Int32} {S : jf_S} {out : Int32 × jf_S} (h : jo16_does F x0 x2 S = some out) : jf_Mi l D E A fo pl yX16_does cX16_does 4 (some .int) 4 [.ref x0a, .ref (E.1 5), .int x2] S out :=
  jf_Mi_of (own := RX16) ⟨by decide, rfl, Nat.le_of_ble_eq_true rfl⟩ (fun hX => jo16_does_ok hX F x0 x0h x2 S h)
theorem jk_says_g_X17 : GoodIn lw_all (wsV RX17 28 RX5 yX5_says (ws_ yX5_says cX5_says 2 none)) := lw_V q647 q648 q649 q109 q650
theorem jk_says_d : yX5_says.cls = RX5 ∧ yX5_says.cls ≠ "java/lang/invoke/MethodHandle" ∧ yX5_says.cls ≠ "java/lang/invoke/VarHandle" ∧ (parseMethodDescriptor yX5_says.desc).map (fun d => d.parameters.length) = some 1 := by decide +kernel
theorem jk_says_ok {out : jf_S} (hX : jf_Ok RX5 p R s m args meth c A D E cX5_says 2 none 0) (F : Nat) (x1 : Int32) (S : jf_S) (h : jk_says F x1 S = some out) : jf_J p l e R s m args below meth c A D E fo pl 2 (jf_Qv below args s A D E fo pl out) 0 [(0, .ref (E.1 5)), (1, .int x1)] [] S := by
  intro H locs ls hP hS hl
  have hX0 := hX
  obtain ⟨hx, hb, hml, hown, hts, hlk, hr, hlv, hV, het⟩ := hX0
  unfold jk_says at h
  refine lv_aload_n hx hb dX5_says_0 rfl (lv_at hl 0 rfl) ?_
  refine jf_get hx hb hts in_X5 hown hV hP (ci := 4) (k := 7) jf_o5 rfl (by decide) (hts _ q385) rfl rfl dX5_says_1 ?_
  refine lv_aload_n hx hb dX5_says_4 rfl (lv_at hl 0 rfl) ?_
  refine jf_get hx hb hts in_X5 hown hV hP (ci := 4) (k := 12) jf_o5 rfl (by decide) (hts _ q398) rfl rfl dX5_says_5 ?_
  refine lv_iload_n hx hb dX5_says_8 rfl (lv_at hl 1 rfl) ?_
  obtain ⟨j1, ej1, bj1, h⟩ := jx_ga_some h
  obtain ⟨S2, eS2, h⟩ := jx_nx_some h
  refine jf_iast hx hb hV hP hS jf_a5_7 ej1 bj1 eS2 dX5_says_9 (fun H locs hP hS => ?_)
  refine lv_aload_n hx hb dX5_says_10 rfl (lv_at hl 0 rfl) ?_
  refine lv_dup hx hb dX5_says_11 rfl ?_
  refine jf_get hx hb hts in_X5 hown hV hP (ci := 4) (k := 12) jf_o5 rfl (by decide) (hts _ q398) rfl rfl dX5_says_12 ?_
  refine lv_iconst hx hb dX5_says_15 jx_ki1 ?_
  refine lv_iadd hx hb dX5_says_16 ?_
  obtain ⟨S3, eS3, h⟩ := jx_nx_some h
  refine jf_put (S1 := S3) hx hb hts in_X5 tyX5_ok nmX5 hown hV hP hS (ci := 4) (k := 12) (by rw [eS3]; rfl) jf_o5 (by rw [eS3]; exact jf_s5_12 _) rfl (by decide) (hts _ q398) rfl rfl (tyX5_ok 12 (by decide)) ⟨rfl, rfl⟩ (Nat.le_of_ble_eq_true rfl) dX5_says_17 (fun H locs hP hS => ?_)
  exact jf_vret hx hb hr hlk hV hP hS h dX5_says_20
theorem jk_says_met {l : Launch} {D : va_G} {E : jf_E} {A : Nat → Prop} {fo : Nat → Nat → Option Nat} {pl : va_W} {F : Nat} {x1 : Int32} {S : jf_S} {out : jf_S} (h : jk_says F x1 S = some out) : jf_Mv l D E A fo pl yX5_says cX5_says 2 none 0 [.ref (E.1 5), .int x1] S out :=
  jf_Mv_of (own := RX5) ⟨by decide, rfl, Nat.le_of_ble_eq_true rfl⟩ (fun hX => jk_says_ok hX F x1 S h)
theorem jo17_does_d : yX17_does.cls = RX17 ∧ yX17_does.cls ≠ "java/lang/invoke/MethodHandle" ∧ yX17_does.cls ≠ "java/lang/invoke/VarHandle" ∧ (parseMethodDescriptor yX17_does.desc).map (fun d => d.parameters.length) = some 2 := by decide +kernel
theorem jo17_does_ok {out : Int32 × jf_S} (hX : jf_Ok RX17 p R s m args meth c A D E cX17_does 3 (some .int) 1) (F : Nat) (x0 : jo_R) {x0a : Nat} (x0h : jo_m8 pl x0a x0) (x2 : Int32) (S : jf_S) (h : jo17_does F x0 x2 S = some out) : jf_J p l e R s m args below meth c A D E fo pl 3 (jf_Qi below args s A D E fo pl out) 0 [(0, .ref x0a), (1, .ref (E.1 5)), (2, .int x2)] [] S := by
  intro H locs ls hP hS hl
  have hX0 := hX
  obtain ⟨hx, hb, hml, hown, hts, hlk, hr, hlv, hV, het⟩ := hX0
  unfold jo17_does at h
  refine lv_aload_n hx hb dX17_does_0 rfl (lv_at hl 1 rfl) ?_
  refine lv_aload_n hx hb dX17_does_1 rfl (lv_at hl 0 rfl) ?_
  obtain ⟨q1, bq1, hq1, aq1⟩ := jo_f8 (E := E) (S := S) (fo := fo) x0h
  refine jf_get hx hb hts in_X17 hown hV hP (ci := 14) (k := 1) hq1 rfl (by decide) (hts _ q1198) rfl rfl dX17_does_2 ?_
  refine lv_aload_n hx hb dX17_does_5 rfl (lv_at hl 1 rfl) ?_
  obtain ⟨q2, eq2, h⟩ := jx_bi_some h
  obtain ⟨q3, hq3⟩ := jf_pool (E := E) (S := S) (fo := fo) aq1
  refine jf_callI hx hb hml hown hts hlv hV (ja_of_met aq1 eq2) ja_of_g_X17 ja_of_d (As := [.ref (E.1 5)]) (Nat.le_of_ble_eq_true rfl) (Nat.le_of_ble_eq_true rfl) hP hS (ci := 5) hq3 rfl hl.1 rfl rfl (lv_room (Nat.le_of_ble_eq_true rfl)) dX17_does_6 (fun H locs hP hS => ?_)
  obtain ⟨q4, eq4, h⟩ := jx_bi_some h
  refine jf_callV hx hb hml hown hts hlv hV (jk_says_met eq4) jk_says_g_X17 jk_says_d (As := [.int q2.1]) (Nat.le_of_ble_eq_true rfl) (Nat.le_of_ble_eq_true rfl) hP hS (ci := 4) jf_o5 rfl hl.1 rfl rfl (lv_room (Nat.le_of_ble_eq_true rfl)) dX17_does_9 (fun H locs hP hS => ?_)
  refine lv_iload_n hx hb dX17_does_12 rfl (lv_at hl 2 rfl) ?_
  refine lv_iconst hx hb dX17_does_13 jx_ki1 ?_
  refine lv_iadd hx hb dX17_does_14 ?_
  exact jf_iret hx hb hr hlk hV hP hS h dX17_does_15
theorem jo17_does_met {l : Launch} {D : va_G} {E : jf_E} {A : Nat → Prop} {fo : Nat → Nat → Option Nat} {pl : va_W} {F : Nat} {x0 : jo_R} {x0a : Nat} (x0h : jo_m8 pl x0a x0) {x2 : Int32} {S : jf_S} {out : Int32 × jf_S} (h : jo17_does F x0 x2 S = some out) : jf_Mi l D E A fo pl yX17_does cX17_does 3 (some .int) 1 [.ref x0a, .ref (E.1 5), .int x2] S out :=
  jf_Mi_of (own := RX17) ⟨by decide, rfl, Nat.le_of_ble_eq_true rfl⟩ (fun hX => jo17_does_ok hX F x0 x0h x2 S h)
theorem jo18_does_d : yX18_does.cls = RX18 ∧ yX18_does.cls ≠ "java/lang/invoke/MethodHandle" ∧ yX18_does.cls ≠ "java/lang/invoke/VarHandle" ∧ (parseMethodDescriptor yX18_does.desc).map (fun d => d.parameters.length) = some 2 := by decide +kernel
theorem jo18_does_ok {out : Int32 × jf_S} (hX : jf_Ok RX18 p R s m args meth c A D E cX18_does 3 (some .int) 0) (F : Nat) (x0 : jo_R) {x0a : Nat} (x0h : jo_m9 pl x0a x0) (x2 : Int32) (S : jf_S) (h : jo18_does F x0 x2 S = some out) : jf_J p l e R s m args below meth c A D E fo pl 3 (jf_Qi below args s A D E fo pl out) 0 [(0, .ref x0a), (1, .ref (E.1 5)), (2, .int x2)] [] S := by
  intro H locs ls hP hS hl
  have hX0 := hX
  obtain ⟨hx, hb, hml, hown, hts, hlk, hr, hlv, hV, het⟩ := hX0
  unfold jo18_does at h
  refine lv_aload_n hx hb dX18_does_0 rfl (lv_at hl 1 rfl) ?_
  refine lv_iconst hx hb dX18_does_1 jx_ki0 ?_
  obtain ⟨S1, eS1, h⟩ := jx_nx_some h
  refine jf_putN (S1 := S1) hx hb hts in_X5 tyX5_ok nmX5 hown hV hP hS (ci := 4) (k := 14) (by rw [eS1]; rfl) jf_o5 (by rw [eS1]; exact jf_s5_14 _) rfl (by decide) (jf_l_X18_9 hV.2.2.1) rfl rfl (tyX5_ok 14 (by decide)) ⟨rfl, rfl⟩ (Nat.le_of_ble_eq_true rfl) dX18_does_2 (fun H locs hP hS => ?_)
  refine lv_iload_n hx hb dX18_does_5 rfl (lv_at hl 2 rfl) ?_
  exact jf_iret hx hb hr hlk hV hP hS h dX18_does_6
theorem jo18_does_met {l : Launch} {D : va_G} {E : jf_E} {A : Nat → Prop} {fo : Nat → Nat → Option Nat} {pl : va_W} {F : Nat} {x0 : jo_R} {x0a : Nat} (x0h : jo_m9 pl x0a x0) {x2 : Int32} {S : jf_S} {out : Int32 × jf_S} (h : jo18_does F x0 x2 S = some out) : jf_Mi l D E A fo pl yX18_does cX18_does 3 (some .int) 0 [.ref x0a, .ref (E.1 5), .int x2] S out :=
  jf_Mi_of (own := RX18) ⟨by decide, rfl, Nat.le_of_ble_eq_true rfl⟩ (fun hX => jo18_does_ok hX F x0 x0h x2 S h)
theorem jv_does_X5 {F nL lv a : Nat} {r : jo_R} {v1 : Int32} {out : Int32 × jf_S} {stk : List Value} (hx : p.tables.exec = Jvm.exec) (hb : c.code = cc) (hml : c.maxLocals = nL) (hown : s.vm.findClass RX5 = some m.cls) (hts : ∀ w ∈ lw_all, w.before args s = true) (hlv : jx_hr R lv) (hV : jf_V D E A s) (hi : jo_Is pl a r) (e1 : jv_does F r v1 S = some out) (h1 : 5 + 1 ≤ lv) (hP : jf_P D E A S fo pl H) (hS : va_S A s.heap H locs) (hls : ls.size = nL) (_ : (1 : Nat) = 1) (hst : stk = ([.ref (E.1 5), .int v1] : List Value).reverse ++ .ref a :: rest) (hW : 2 * (F0 m pc ls stk).monitorRoom + (rest.map fun v => v.category).sum ≤ 8) (hdg : decode cc pc = .ok (.invokevirtual 118, 3))
    (kk : ∀ (H : Heap) (locs : List Loc), jf_P D E A out.2 fo pl H → va_S A s.heap H locs → W p l e R s m args below meth c H locs 0 0 Q (F0 m (pc + 3) ls (.int out.1 :: rest))) : W p l e R s m args below meth c H locs 0 0 Q (F0 m pc ls stk) := by
  obtain ⟨hv1, hv2⟩ := hlv
  rcases hi with ⟨e0, h0⟩ | ⟨e0, h0⟩ | ⟨e0, h0⟩ | ⟨e0, h0⟩ | ⟨e0, h0⟩ | ⟨e0, h0⟩ | ⟨e0, h0⟩ | ⟨e0, h0⟩ | ⟨e0, h0⟩ | ⟨e0, h0⟩
  · rw [jv_does, if_pos e0] at e1
    obtain ⟨q0, _, _, hq, -, -⟩ := jo_f0 (E := E) (S := S) (fo := fo) h0
    exact jf_vcallI hx hb hml hown hts hV (jo9_does_met h0 e1) (va_cwA (x := ⟨"JumpFence$Order", "does", "(LJumpFence$Machine;I)I"⟩) (owner := "JumpFence$Order") 2 hts (jf_lwU q550 q552 q668 q669 q117 q670) rfl rfl rfl (hV.2.2.1.2.2.2 ⟨"JumpFence$Order", "does", "(LJumpFence$Machine;I)I"⟩ (by decide)) (by decide +kernel) ⟨by show 1 + 1 ≤ R.frames; omega, by show 8 + (9 + 11) + 40 * 1 ≤ R.locals; omega⟩) hP hS (ci := 6) hq rfl hls rfl hst hW hdg kk
  · rw [jv_does, if_neg (by rw [e0]; decide), if_pos e0] at e1
    obtain ⟨q0, hq⟩ := jf_pool (E := E) (S := S) (fo := fo) h0
    exact jf_vcallI hx hb hml hown hts hV (jo10_does_met h0 e1) (va_cwA (x := ⟨"JumpFence$Order", "does", "(LJumpFence$Machine;I)I"⟩) (owner := "JumpFence$Order") 2 hts (jf_lwU q550 q552 q661 q662 q118 q663) rfl rfl rfl (hV.2.2.1.2.2.2 ⟨"JumpFence$Order", "does", "(LJumpFence$Machine;I)I"⟩ (by decide)) (by decide +kernel) ⟨by show 1 + 1 ≤ R.frames; omega, by show 8 + (3 + 11) + 40 * 1 ≤ R.locals; omega⟩) hP hS (ci := 7) hq rfl hls rfl hst hW hdg kk
  · rw [jv_does, if_neg (by rw [e0]; decide), if_neg (by rw [e0]; decide), if_pos e0] at e1
    obtain ⟨q0, hq⟩ := jf_pool (E := E) (S := S) (fo := fo) h0
    exact jf_vcallI hx hb hml hown hts hV (jo11_does_met h0 e1) (va_cwA (x := ⟨"JumpFence$Order", "does", "(LJumpFence$Machine;I)I"⟩) (owner := "JumpFence$Order") 2 hts (jf_lwU q550 q552 q658 q659 q119 q660) rfl rfl rfl (hV.2.2.1.2.2.2 ⟨"JumpFence$Order", "does", "(LJumpFence$Machine;I)I"⟩ (by decide)) (by decide +kernel) ⟨by show 0 + 1 ≤ R.frames; omega, by show 8 + (3 + 11) + 40 * 0 ≤ R.locals; omega⟩) hP hS (ci := 8) hq rfl hls rfl hst hW hdg kk
  · rw [jv_does, if_neg (by rw [e0]; decide), if_neg (by rw [e0]; decide), if_neg (by rw [e0]; decide), if_pos e0] at e1
    obtain ⟨q0, _, _, hq, -, -⟩ := jo_f3 (E := E) (S := S) (fo := fo) h0
    exact jf_vcallI hx hb hml hown hts hV (jo12_does_met h0 e1) (va_cwA (x := ⟨"JumpFence$Order", "does", "(LJumpFence$Machine;I)I"⟩) (owner := "JumpFence$Order") 2 hts (jf_lwU q550 q552 q651 q652 q120 q653) rfl rfl rfl (hV.2.2.1.2.2.2 ⟨"JumpFence$Order", "does", "(LJumpFence$Machine;I)I"⟩ (by decide)) (by decide +kernel) ⟨by show 1 + 1 ≤ R.frames; omega, by show 8 + (3 + 11) + 40 * 1 ≤ R.locals; omega⟩) hP hS (ci := 9) hq rfl hls rfl hst hW hdg kk
  · rw [jv_does, if_neg (by rw [e0]; decide), if_neg (by rw [e0]; decide), if_neg (by rw [e0]; decide), if_neg (by rw [e0]; decide), if_pos e0] at e1
    obtain ⟨q0, hq⟩ := jf_pool (E := E) (S := S) (fo := fo) h0
    exact jf_vcallI hx hb hml hown hts hV (jo13_does_met (Or.inl h0) e1) (va_cwA (x := ⟨"JumpFence$Order", "does", "(LJumpFence$Machine;I)I"⟩) (owner := "JumpFence$Order") 2 hts (jf_lwU q550 q552 q681 q628 q121 q629) rfl rfl rfl (hV.2.2.1.2.2.2 ⟨"JumpFence$Order", "does", "(LJumpFence$Machine;I)I"⟩ (by decide)) (by decide +kernel) ⟨by show 4 + 1 ≤ R.frames; omega, by show 8 + (3 + 11) + 40 * 4 ≤ R.locals; omega⟩) hP hS (ci := 10) hq rfl hls rfl hst hW hdg kk
  · rw [jv_does, if_neg (by rw [e0]; decide), if_neg (by rw [e0]; decide), if_neg (by rw [e0]; decide), if_neg (by rw [e0]; decide), if_neg (by rw [e0]; decide), if_pos e0] at e1
    obtain ⟨q0, hq⟩ := jf_pool (E := E) (S := S) (fo := fo) h0
    exact jf_vcallI hx hb hml hown hts hV (jo14_does_met h0 e1) (va_cwA (x := ⟨"JumpFence$Order", "does", "(LJumpFence$Machine;I)I"⟩) (owner := "JumpFence$Order") 2 hts (jf_lwU q550 q552 q635 q636 q122 q637) rfl rfl rfl (hV.2.2.1.2.2.2 ⟨"JumpFence$Order", "does", "(LJumpFence$Machine;I)I"⟩ (by decide)) (by decide +kernel) ⟨by show 1 + 1 ≤ R.frames; omega, by show 8 + (3 + 11) + 40 * 1 ≤ R.locals; omega⟩) hP hS (ci := 11) hq rfl hls rfl hst hW hdg kk
  · rw [jv_does, if_neg (by rw [e0]; decide), if_neg (by rw [e0]; decide), if_neg (by rw [e0]; decide), if_neg (by rw [e0]; decide), if_neg (by rw [e0]; decide), if_neg (by rw [e0]; decide), if_pos e0] at e1
    obtain ⟨q0, hq⟩ := jf_pool (E := E) (S := S) (fo := fo) h0
    exact jf_vcallI hx hb hml hown hts hV (jo15_does_met h0 e1) (va_cwA (x := ⟨"JumpFence$Order", "does", "(LJumpFence$Machine;I)I"⟩) (owner := "JumpFence$Order") 2 hts (jf_lwU q550 q552 q622 q623 q123 q624) rfl rfl rfl (hV.2.2.1.2.2.2 ⟨"JumpFence$Order", "does", "(LJumpFence$Machine;I)I"⟩ (by decide)) (by decide +kernel) ⟨by show 5 + 1 ≤ R.frames; omega, by show 8 + (4 + 11) + 40 * 5 ≤ R.locals; omega⟩) hP hS (ci := 12) hq rfl hls rfl hst hW hdg kk
  · rw [jv_does, if_neg (by rw [e0]; decide), if_neg (by rw [e0]; decide), if_neg (by rw [e0]; decide), if_neg (by rw [e0]; decide), if_neg (by rw [e0]; decide), if_neg (by rw [e0]; decide), if_neg (by rw [e0]; decide), if_pos e0] at e1
    obtain ⟨q0, hq⟩ := jf_pool (E := E) (S := S) (fo := fo) h0
    exact jf_vcallI hx hb hml hown hts hV (jo16_does_met h0 e1) (va_cwA (x := ⟨"JumpFence$Order", "does", "(LJumpFence$Machine;I)I"⟩) (owner := "JumpFence$Order") 2 hts (jf_lwU q550 q552 q553 q554 q124 q555) rfl rfl rfl (hV.2.2.1.2.2.2 ⟨"JumpFence$Order", "does", "(LJumpFence$Machine;I)I"⟩ (by decide)) (by decide +kernel) ⟨by show 4 + 1 ≤ R.frames; omega, by show 8 + (4 + 11) + 40 * 4 ≤ R.locals; omega⟩) hP hS (ci := 13) hq rfl hls rfl hst hW hdg kk
  · rw [jv_does, if_neg (by rw [e0]; decide), if_neg (by rw [e0]; decide), if_neg (by rw [e0]; decide), if_neg (by rw [e0]; decide), if_neg (by rw [e0]; decide), if_neg (by rw [e0]; decide), if_neg (by rw [e0]; decide), if_neg (by rw [e0]; decide), if_pos e0] at e1
    obtain ⟨q0, _, hq, -⟩ := jo_f8 (E := E) (S := S) (fo := fo) h0
    exact jf_vcallI hx hb hml hown hts hV (jo17_does_met h0 e1) (va_cwA (x := ⟨"JumpFence$Order", "does", "(LJumpFence$Machine;I)I"⟩) (owner := "JumpFence$Order") 2 hts (jf_lwU q550 q552 q640 q641 q125 q642) rfl rfl rfl (hV.2.2.1.2.2.2 ⟨"JumpFence$Order", "does", "(LJumpFence$Machine;I)I"⟩ (by decide)) (by decide +kernel) ⟨by show 1 + 1 ≤ R.frames; omega, by show 8 + (3 + 11) + 40 * 1 ≤ R.locals; omega⟩) hP hS (ci := 14) hq rfl hls rfl hst hW hdg kk
  · rw [jv_does, if_neg (by rw [e0]; decide), if_neg (by rw [e0]; decide), if_neg (by rw [e0]; decide), if_neg (by rw [e0]; decide), if_neg (by rw [e0]; decide), if_neg (by rw [e0]; decide), if_neg (by rw [e0]; decide), if_neg (by rw [e0]; decide), if_neg (by rw [e0]; decide), if_pos e0] at e1
    obtain ⟨q0, hq⟩ := jf_pool (E := E) (S := S) (fo := fo) h0
    exact jf_vcallI hx hb hml hown hts hV (jo18_does_met h0 e1) (va_cwA (x := ⟨"JumpFence$Order", "does", "(LJumpFence$Machine;I)I"⟩) (owner := "JumpFence$Order") 2 hts (jf_lwU q550 q552 q678 q679 q126 q680) rfl rfl rfl (hV.2.2.1.2.2.2 ⟨"JumpFence$Order", "does", "(LJumpFence$Machine;I)I"⟩ (by decide)) (by decide +kernel) ⟨by show 0 + 1 ≤ R.frames; omega, by show 8 + (3 + 11) + 40 * 0 ≤ R.locals; omega⟩) hP hS (ci := 15) hq rfl hls rfl hst hW hdg kk
theorem jk_step_g_X1 : GoodIn lw_all (wsV RX1 304 RX5 yX5_step (ws_ yX5_step cX5_step 3 (some .boolean))) := lw_V q937 q543 q544 q109 q545
theorem jk_step_g_X5 : GoodIn lw_all (wsV RX5 128 RX5 yX5_step (ws_ yX5_step cX5_step 3 (some .boolean))) := lw_V q542 q543 q544 q109 q545
theorem jk_step_d : yX5_step.cls = RX5 ∧ yX5_step.cls ≠ "java/lang/invoke/MethodHandle" ∧ yX5_step.cls ≠ "java/lang/invoke/VarHandle" ∧ (parseMethodDescriptor yX5_step.desc).map (fun d => d.parameters.length) = some 0 := by decide +kernel
theorem jk_step_b89_ok {out : Int32 × jf_S} (hX : jf_Ok RX5 p R s m args meth c A D E cX5_step 3 (some .boolean) 6) (F : Nat)  (S : jf_S) (h : jk_step_b89 F  S = some out) : jf_J p l e R s m args below meth c A D E fo pl 3 (jf_Qi below args s A D E fo pl out) 89 [(0, .ref (E.1 5))] [] S := by
  intro H locs ls hP hS hl
  have hX0 := hX
  obtain ⟨hx, hb, hml, hown, hts, hlk, hr, hlv, hV, het⟩ := hX0
  unfold jk_step_b89 at h
  refine lv_aload_n hx hb dX5_step_89 rfl (lv_at hl 0 rfl) ?_
  refine jf_get hx hb hts in_X5 hown hV hP (ci := 4) (k := 14) jf_o5 rfl (by decide) (hts _ q402) rfl rfl dX5_step_90 ?_
  refine lv_iconst hx hb dX5_step_93 jx_ki4 ?_
  refine lv_icmp_ne (tgt := 101) hx hb dX5_step_94 rfl (fun c1 => ?_) (fun c1 => ?_)
  · rw [if_neg c1] at h
    refine lv_iconst hx hb dX5_step_101 jx_ki0 ?_
    exact jf_zret hx hb hr hlk hV hP hS jx_nz0 h dX5_step_102
  · rw [if_pos c1] at h
    refine lv_iconst hx hb dX5_step_97 jx_ki1 ?_
    refine lv_goto (tgt := 102) hx hb dX5_step_98 rfl ?_
    exact jf_zret hx hb hr hlk hV hP hS jx_nz1 h dX5_step_102
theorem jk_step_b21_ok {out : Int32 × jf_S} (hX : jf_Ok RX5 p R s m args meth c A D E cX5_step 3 (some .boolean) 6) (F : Nat)  (S : jf_S) (h : jk_step_b21 F  S = some out) : jf_J p l e R s m args below meth c A D E fo pl 3 (jf_Qi below args s A D E fo pl out) 21 [(0, .ref (E.1 5))] [] S := by
  intro H locs ls hP hS hl
  have hX0 := hX
  obtain ⟨hx, hb, hml, hown, hts, hlk, hr, hlv, hV, het⟩ := hX0
  unfold jk_step_b21 at h
  refine lv_aload_n hx hb dX5_step_21 rfl (lv_at hl 0 rfl) ?_
  obtain ⟨q1, eq1, h⟩ := jx_bi_some h
  refine jf_callI hx hb hml hown hts hlv hV (jk_trap_met eq1) jk_trap_g_X5 jk_trap_d (As := []) (Nat.le_of_ble_eq_true rfl) (Nat.le_of_ble_eq_true rfl) hP hS (ci := 4) jf_o5 rfl hl.1 rfl rfl (lv_room (Nat.le_of_ble_eq_true rfl)) dX5_step_22 (fun H locs hP hS => ?_)
  refine lv_pop hx hb dX5_step_25 rfl ?_
  refine lv_goto (tgt := 89) hx hb dX5_step_26 rfl ?_
  exact jk_step_b89_ok hX F _ h _ _ _ hP hS hl
theorem jk_step_b84_ok {out : Int32 × jf_S} (hX : jf_Ok RX5 p R s m args meth c A D E cX5_step 3 (some .boolean) 6) (F : Nat) (x2 : Int32) (S : jf_S) (h : jk_step_b84 F x2 S = some out) : jf_J p l e R s m args below meth c A D E fo pl 3 (jf_Qi below args s A D E fo pl out) 84 [(0, .ref (E.1 5)), (2, .int x2)] [] S := by
  intro H locs ls hP hS hl
  have hX0 := hX
  obtain ⟨hx, hb, hml, hown, hts, hlk, hr, hlv, hV, het⟩ := hX0
  unfold jk_step_b84 at h
  refine lv_aload_n hx hb dX5_step_84 rfl (lv_at hl 0 rfl) ?_
  refine lv_iload_n hx hb dX5_step_85 rfl (lv_at hl 1 rfl) ?_
  obtain ⟨S1, eS1, h⟩ := jx_nx_some h
  refine jf_put (S1 := S1) hx hb hts in_X5 tyX5_ok nmX5 hown hV hP hS (ci := 4) (k := 9) (by rw [eS1]; rfl) jf_o5 (by rw [eS1]; exact jf_s5_9 _) rfl (by decide) (hts _ q392) rfl rfl (tyX5_ok 9 (by decide)) ⟨rfl, rfl⟩ (Nat.le_of_ble_eq_true rfl) dX5_step_86 (fun H locs hP hS => ?_)
  exact jk_step_b89_ok hX F _ h _ _ _ hP hS (lv_sub hl [0] rfl)
theorem jk_step_b64_ok {out : Int32 × jf_S} (hX : jf_Ok RX5 p R s m args meth c A D E cX5_step 3 (some .boolean) 6) (F : Nat) (x1 : Int32) (x2 : Int32) (S : jf_S) (h : jk_step_b64 F x1 x2 S = some out) : jf_J p l e R s m args below meth c A D E fo pl 3 (jf_Qi below args s A D E fo pl out) 64 [(0, .ref (E.1 5)), (1, .int x1), (2, .int x2)] [] S := by
  intro H locs ls hP hS hl
  have hX0 := hX
  obtain ⟨hx, hb, hml, hown, hts, hlk, hr, hlv, hV, het⟩ := hX0
  unfold jk_step_b64 at h
  refine lv_aload_n hx hb dX5_step_64 rfl (lv_at hl 0 rfl) ?_
  refine jf_get hx hb hts in_X5 hown hV hP (ci := 4) (k := 6) jf_o5 rfl (by decide) (hts _ q383) rfl rfl dX5_step_65 ?_
  refine lv_aload_n hx hb dX5_step_68 rfl (lv_at hl 0 rfl) ?_
  refine jf_get hx hb hts in_X5 hown hV hP (ci := 4) (k := 10) jf_o5 rfl (by decide) (hts _ q394) rfl rfl dX5_step_69 ?_
  refine lv_iload_n hx hb dX5_step_72 rfl (lv_at hl 1 rfl) ?_
  obtain ⟨j1, ej1, bj1, h⟩ := jx_ga_some h
  obtain ⟨S2, eS2, h⟩ := jx_nx_some h
  refine jf_iast hx hb hV hP hS jf_a5_6 ej1 bj1 eS2 dX5_step_73 (fun H locs hP hS => ?_)
  refine lv_aload_n hx hb dX5_step_74 rfl (lv_at hl 0 rfl) ?_
  refine lv_dup hx hb dX5_step_75 rfl ?_
  refine jf_get hx hb hts in_X5 hown hV hP (ci := 4) (k := 10) jf_o5 rfl (by decide) (hts _ q394) rfl rfl dX5_step_76 ?_
  refine lv_iconst hx hb dX5_step_79 jx_ki1 ?_
  refine lv_iadd hx hb dX5_step_80 ?_
  obtain ⟨S3, eS3, h⟩ := jx_nx_some h
  refine jf_put (S1 := S3) hx hb hts in_X5 tyX5_ok nmX5 hown hV hP hS (ci := 4) (k := 10) (by rw [eS3]; rfl) jf_o5 (by rw [eS3]; exact jf_s5_10 _) rfl (by decide) (hts _ q394) rfl rfl (tyX5_ok 10 (by decide)) ⟨rfl, rfl⟩ (Nat.le_of_ble_eq_true rfl) dX5_step_81 (fun H locs hP hS => ?_)
  exact jk_step_b84_ok hX F _ _ h _ _ _ hP hS (lv_sub hl [0, 2] rfl)
theorem jk_step_ok {out : Int32 × jf_S} (hX : jf_Ok RX5 p R s m args meth c A D E cX5_step 3 (some .boolean) 6) (F : Nat)  (S : jf_S) (h : jk_step F  S = some out) : jf_J p l e R s m args below meth c A D E fo pl 3 (jf_Qi below args s A D E fo pl out) 0 [(0, .ref (E.1 5))] [] S := by
  intro H locs ls hP hS hl
  have hX0 := hX
  obtain ⟨hx, hb, hml, hown, hts, hlk, hr, hlv, hV, het⟩ := hX0
  unfold jk_step at h
  refine lv_aload_n hx hb dX5_step_0 rfl (lv_at hl 0 rfl) ?_
  refine jf_get hx hb hts in_X5 hown hV hP (ci := 4) (k := 9) jf_o5 rfl (by decide) (hts _ q392) rfl rfl dX5_step_1 ?_
  refine lv_if_lt (tgt := 21) hx hb dX5_step_4 rfl (fun c1 => ?_) (fun c1 => ?_)
  · rw [if_pos c1] at h
    exact jk_step_b21_ok hX F _ h _ _ _ hP hS hl
  · rw [if_neg c1] at h
    refine lv_aload_n hx hb dX5_step_7 rfl (lv_at hl 0 rfl) ?_
    refine jf_get hx hb hts in_X5 hown hV hP (ci := 4) (k := 9) jf_o5 rfl (by decide) (hts _ q392) rfl rfl dX5_step_8 ?_
    refine lv_aload_n hx hb dX5_step_11 rfl (lv_at hl 0 rfl) ?_
    refine jf_get hx hb hts in_X5 hown hV hP (ci := 4) (k := 0) jf_o5 rfl (by decide) (hts _ q371) rfl rfl dX5_step_12 ?_
    refine jf_getN hx hb hts in_X4 hown hV hP (ci := 3) (k := 13) (jf_oP (Or.inl rfl)) rfl (by decide) (jf_l_X5_83 hV.2.2.1) rfl rfl dX5_step_15 ?_
    refine lv_icmp_lt (tgt := 29) hx hb dX5_step_18 rfl (fun c2 => ?_) (fun c2 => ?_)
    · rw [if_pos c2] at h
      refine lv_aload_n hx hb dX5_step_29 rfl (lv_at hl 0 rfl) ?_
      refine jf_get hx hb hts in_X5 hown hV hP (ci := 4) (k := 9) jf_o5 rfl (by decide) (hts _ q392) rfl rfl dX5_step_30 ?_
      obtain ⟨y3, ey3, h⟩ := jx_nx_some h
      refine jx_topi ey3 ?_
      refine lv_istore_n (lv' := [(1, .int y3), (0, .ref (E.1 5))]) hx hb dX5_step_33 rfl hl (Nat.le_of_ble_eq_true rfl) rfl (fun ls hl => ?_)
      refine lv_aload_n hx hb dX5_step_34 rfl (lv_at hl 1 rfl) ?_
      refine jf_get hx hb hts in_X5 hown hV hP (ci := 4) (k := 0) jf_o5 rfl (by decide) (hts _ q371) rfl rfl dX5_step_35 ?_
      refine jf_getN hx hb hts in_X4 hown hV hP (ci := 3) (k := 0) (jf_oP (Or.inl rfl)) rfl (by decide) (jf_l_X5_73 hV.2.2.1) rfl rfl dX5_step_38 ?_
      refine lv_iload_n hx hb dX5_step_41 rfl (lv_at hl 0 rfl) ?_
      obtain ⟨j4, ej4, bj4, h⟩ := jx_ga_some h
      obtain ⟨r5, er5, h⟩ := jx_bi_some h
      refine jf_qald hx hb hV hP (jf_aP0 (Or.inl rfl)) ej4 bj4 er5 dX5_step_42 (fun r5a r5h => ?_)
      refine lv_aload_n hx hb dX5_step_43 rfl (lv_at hl 1 rfl) ?_
      refine lv_iload_n hx hb dX5_step_44 rfl (lv_at hl 0 rfl) ?_
      obtain ⟨q6, eq6, h⟩ := jx_bi_some h
      refine jv_does_X5 hx hb hml hown hts hlv hV r5h eq6 (Nat.le_of_ble_eq_true rfl) hP hS hl.1 rfl rfl (lv_room (Nat.le_of_ble_eq_true rfl)) dX5_step_45 (fun H locs hP hS => ?_)
      obtain ⟨y7, ey7, h⟩ := jx_nx_some h
      refine jx_topi ey7 ?_
      refine lv_istore_n (lv' := [(2, .int y7), (1, .int y3), (0, .ref (E.1 5))]) hx hb dX5_step_48 rfl hl (Nat.le_of_ble_eq_true rfl) rfl (fun ls hl => ?_)
      refine lv_aload_n hx hb dX5_step_49 rfl (lv_at hl 2 rfl) ?_
      refine jf_get hx hb hts in_X5 hown hV hP (ci := 4) (k := 14) jf_o5 rfl (by decide) (hts _ q402) rfl rfl dX5_step_50 ?_
      refine lv_iconst hx hb dX5_step_53 jx_ki4 ?_
      refine lv_icmp_eq (tgt := 64) hx hb dX5_step_54 rfl (fun c8 => ?_) (fun c8 => ?_)
      · rw [if_pos c8] at h
        exact jk_step_b64_ok hX F _ _ _ h _ _ _ hP hS (lv_sub hl [2, 1, 0] rfl)
      · rw [if_neg c8] at h
        refine lv_aload_n hx hb dX5_step_57 rfl (lv_at hl 2 rfl) ?_
        refine jf_get hx hb hts in_X5 hown hV hP (ci := 4) (k := 14) jf_o5 rfl (by decide) (hts _ q402) rfl rfl dX5_step_58 ?_
        refine lv_if_ne (tgt := 84) hx hb dX5_step_61 rfl (fun c9 => ?_) (fun c9 => ?_)
        · rw [if_neg c9] at h
          exact jk_step_b84_ok hX F _ _ h _ _ _ hP hS (lv_sub hl [2, 0] rfl)
        · rw [if_pos c9] at h
          exact jk_step_b64_ok hX F _ _ _ h _ _ _ hP hS (lv_sub hl [2, 1, 0] rfl)
    · rw [if_neg c2] at h
      exact jk_step_b21_ok hX F _ h _ _ _ hP hS hl
theorem jk_step_met {l : Launch} {D : va_G} {E : jf_E} {A : Nat → Prop} {fo : Nat → Nat → Option Nat} {pl : va_W} {F : Nat}  {S : jf_S} {out : Int32 × jf_S} (h : jk_step F  S = some out) : jf_Mi l D E A fo pl yX5_step cX5_step 3 (some .boolean) 6 [.ref (E.1 5)] S out :=
  jf_Mi_of (own := RX5) ⟨by decide, rfl, Nat.le_of_ble_eq_true rfl⟩ (fun hX => jk_step_ok hX F  S h)
theorem jk_runs_g_X1 : GoodIn lw_all (wsV RX1 192 RX5 yX5_runs (ws_ yX5_runs cX5_runs 4 none)) := lw_V q530 q531 q532 q109 q533
theorem jk_runs_d : yX5_runs.cls = RX5 ∧ yX5_runs.cls ≠ "java/lang/invoke/MethodHandle" ∧ yX5_runs.cls ≠ "java/lang/invoke/VarHandle" ∧ (parseMethodDescriptor yX5_runs.desc).map (fun d => d.parameters.length) = some 2 := by decide +kernel
theorem jk_runs_b23_ok {out : jf_S} (hX : jf_Ok RX5 p R s m args meth c A D E cX5_runs 4 none 7) (F : Nat) {r11 : Int32 × Int32 × jf_S → Option (jf_S)} (hr11 : ∀ a, r11 a = some out → jf_J p l e R s m args below meth c A D E fo pl 4 (jf_Qv below args s A D E fo pl out) 11 [(0, .ref (E.1 5)), (1, .int a.1), (3, .int a.2.1)] [] a.2.2) (x1 : Int32) (S : jf_S) (h : jk_runs_b23 F r11 x1 S = some out) : jf_J p l e R s m args below meth c A D E fo pl 4 (jf_Qv below args s A D E fo pl out) 23 [(0, .ref (E.1 5)), (1, .int x1)] [] S := by
  intro H locs ls hP hS hl
  have hX0 := hX
  obtain ⟨hx, hb, hml, hown, hts, hlk, hr, hlv, hV, het⟩ := hX0
  unfold jk_runs_b23 at h
  refine lv_aload_n hx hb dX5_runs_23 rfl (lv_at hl 0 rfl) ?_
  refine jf_get hx hb hts in_X5 hown hV hP (ci := 4) (k := 10) jf_o5 rfl (by decide) (hts _ q394) rfl rfl dX5_runs_24 ?_
  refine lv_sipush hx hb dX5_runs_27 jx_ks300 ?_
  refine lv_icmp_ne (tgt := 43) hx hb dX5_runs_30 rfl (fun c1 => ?_) (fun c1 => ?_)
  · rw [if_neg c1] at h
    refine lv_aload_n hx hb dX5_runs_43 rfl (lv_at hl 0 rfl) ?_
    obtain ⟨q2, eq2, h⟩ := jx_bi_some h
    refine jf_callI hx hb hml hown hts hlv hV (jk_step_met eq2) jk_step_g_X5 jk_step_d (As := []) (Nat.le_of_ble_eq_true rfl) (Nat.le_of_ble_eq_true rfl) hP hS (ci := 4) jf_o5 rfl hl.1 rfl rfl (lv_room (Nat.le_of_ble_eq_true rfl)) dX5_runs_44 (fun H locs hP hS => ?_)
    obtain ⟨y3, ey3, h⟩ := jx_nx_some h
    refine jx_topi ey3 ?_
    refine lv_istore_n (lv' := [(3, .int y3), (0, .ref (E.1 5)), (1, .int x1)]) hx hb dX5_runs_47 rfl hl (Nat.le_of_ble_eq_true rfl) rfl (fun ls hl => ?_)
    refine lv_goto (tgt := 11) hx hb dX5_runs_48 rfl ?_
    exact hr11 _ h _ _ _ hP hS (lv_sub hl [1, 2, 0] rfl)
  · rw [if_pos c1] at h
    refine lv_aload_n hx hb dX5_runs_33 rfl (lv_at hl 0 rfl) ?_
    refine lv_iconst hx hb dX5_runs_34 jx_ki2 ?_
    obtain ⟨S4, eS4, h⟩ := jx_nx_some h
    refine jf_put (S1 := S4) hx hb hts in_X5 tyX5_ok nmX5 hown hV hP hS (ci := 4) (k := 14) (by rw [eS4]; rfl) jf_o5 (by rw [eS4]; exact jf_s5_14 _) rfl (by decide) (hts _ q402) rfl rfl (tyX5_ok 14 (by decide)) ⟨rfl, rfl⟩ (Nat.le_of_ble_eq_true rfl) dX5_runs_35 (fun H locs hP hS => ?_)
    refine lv_iconst hx hb dX5_runs_38 jx_ki0 ?_
    obtain ⟨y5, ey5, h⟩ := jx_nx_some h
    refine jx_topi ey5 ?_
    refine lv_istore_n (lv' := [(3, .int y5), (0, .ref (E.1 5)), (1, .int x1)]) hx hb dX5_runs_39 rfl hl (Nat.le_of_ble_eq_true rfl) rfl (fun ls hl => ?_)
    refine lv_goto (tgt := 11) hx hb dX5_runs_40 rfl ?_
    exact hr11 _ h _ _ _ hP hS (lv_sub hl [1, 2, 0] rfl)
theorem jk_runs_L11_ok {out : jf_S} (hX : jf_Ok RX5 p R s m args meth c A D E cX5_runs 4 none 7) (F : Nat) {r11 : Int32 × Int32 × jf_S → Option (jf_S)} (hr11 : ∀ a, r11 a = some out → jf_J p l e R s m args below meth c A D E fo pl 4 (jf_Qv below args s A D E fo pl out) 11 [(0, .ref (E.1 5)), (1, .int a.1), (3, .int a.2.1)] [] a.2.2) (x1 : Int32) (x3 : Int32) (S : jf_S) (h : jk_runs_L11 F r11 x1 x3 S = some out) : jf_J p l e R s m args below meth c A D E fo pl 4 (jf_Qv below args s A D E fo pl out) 11 [(0, .ref (E.1 5)), (1, .int x1), (3, .int x3)] [] S := by
  intro H locs ls hP hS hl
  have hX0 := hX
  obtain ⟨hx, hb, hml, hown, hts, hlk, hr, hlv, hV, het⟩ := hX0
  unfold jk_runs_L11 at h
  refine lv_iload_n hx hb dX5_runs_11 rfl (lv_at hl 2 rfl) ?_
  refine lv_if_eq (tgt := 51) hx hb dX5_runs_12 rfl (fun c1 => ?_) (fun c1 => ?_)
  · rw [if_pos c1] at h
    exact jf_vret hx hb hr hlk hV hP hS h dX5_runs_51
  · rw [if_neg c1] at h
    refine lv_iload_n hx hb dX5_runs_15 rfl (lv_at hl 1 rfl) ?_
    refine lv_if_eq (tgt := 23) hx hb dX5_runs_16 rfl (fun c2 => ?_) (fun c2 => ?_)
    · rw [if_pos c2] at h
      exact jk_runs_b23_ok hX F hr11 _ _ h _ _ _ hP hS (lv_sub hl [0, 1] rfl)
    · rw [if_neg c2] at h
      refine lv_aload_n hx hb dX5_runs_19 rfl (lv_at hl 0 rfl) ?_
      obtain ⟨q3, eq3, h⟩ := jx_bi_some h
      refine jf_callV hx hb hml hown hts hlv hV (jk_bends_met eq3) jk_bends_g_X5 jk_bends_d (As := []) (Nat.le_of_ble_eq_true rfl) (Nat.le_of_ble_eq_true rfl) hP hS (ci := 4) jf_o5 rfl hl.1 rfl rfl (lv_room (Nat.le_of_ble_eq_true rfl)) dX5_runs_20 (fun H locs hP hS => ?_)
      exact jk_runs_b23_ok hX F hr11 _ _ h _ _ _ hP hS (lv_sub hl [0, 1] rfl)
theorem jk_runs_h11_ok {out : jf_S} (hX : jf_Ok RX5 p R s m args meth c A D E cX5_runs 4 none 7) (F : Nat) (n : Nat) (a : Int32 × Int32 × jf_S) (h : jk_runs_h11 F n a = some out) : jf_J p l e R s m args below meth c A D E fo pl 4 (jf_Qv below args s A D E fo pl out) 11 [(0, .ref (E.1 5)), (1, .int a.1), (3, .int a.2.1)] [] a.2.2 :=
  jx_loop_ind (J := fun a => jf_J p l e R s m args below meth c A D E fo pl 4 (jf_Qv below args s A D E fo pl out) 11 [(0, .ref (E.1 5)), (1, .int a.1), (3, .int a.2.1)] [] a.2.2) (fun r hr a h => jk_runs_L11_ok hX F hr a.1 a.2.1 a.2.2 h) n a h
theorem jk_runs_ok {out : jf_S} (hX : jf_Ok RX5 p R s m args meth c A D E cX5_runs 4 none 7) (F : Nat) (x1 : Int32) (x2 : Int32) (S : jf_S) (h : jk_runs F x1 x2 S = some out) : jf_J p l e R s m args below meth c A D E fo pl 4 (jf_Qv below args s A D E fo pl out) 0 [(0, .ref (E.1 5)), (1, .int x1), (2, .int x2)] [] S := by
  intro H locs ls hP hS hl
  have hX0 := hX
  obtain ⟨hx, hb, hml, hown, hts, hlk, hr, hlv, hV, het⟩ := hX0
  unfold jk_runs at h
  refine lv_aload_n hx hb dX5_runs_0 rfl (lv_at hl 0 rfl) ?_
  obtain ⟨q1, eq1, h⟩ := jx_bi_some h
  refine jf_callV hx hb hml hown hts hlv hV (jk_begins_met eq1) jk_begins_g_X5 jk_begins_d (As := []) (Nat.le_of_ble_eq_true rfl) (Nat.le_of_ble_eq_true rfl) hP hS (ci := 4) jf_o5 rfl hl.1 rfl rfl (lv_room (Nat.le_of_ble_eq_true rfl)) dX5_runs_1 (fun H locs hP hS => ?_)
  refine lv_aload_n hx hb dX5_runs_4 rfl (lv_at hl 0 rfl) ?_
  refine lv_iload_n hx hb dX5_runs_5 rfl (lv_at hl 2 rfl) ?_
  obtain ⟨z3, h⟩ := jx_gz_some h
  obtain ⟨S2, eS2, h⟩ := jx_nx_some h
  refine jf_put (S1 := S2) hx hb hts in_X5 tyX5_ok nmX5 hown hV hP hS (ci := 4) (k := 18) (by rw [eS2]; rfl) jf_o5 (by rw [eS2]; exact jf_s5_18 _) rfl (by decide) (hts _ q413) rfl rfl (tyX5_ok 18 (by decide)) z3 (Nat.le_of_ble_eq_true rfl) dX5_runs_6 (fun H locs hP hS => ?_)
  refine lv_iconst hx hb dX5_runs_9 jx_ki1 ?_
  obtain ⟨y4, ey4, h⟩ := jx_nx_some h
  refine jx_topi ey4 ?_
  refine lv_istore_n (lv' := [(3, .int y4), (0, .ref (E.1 5)), (1, .int x1), (2, .int x2)]) hx hb dX5_runs_10 rfl hl (Nat.le_of_ble_eq_true rfl) rfl (fun ls hl => ?_)
  exact jk_runs_h11_ok hX F F _ h _ _ _ hP hS (lv_sub hl [1, 2, 0] rfl)
theorem jk_runs_met {l : Launch} {D : va_G} {E : jf_E} {A : Nat → Prop} {fo : Nat → Nat → Option Nat} {pl : va_W} {F : Nat} {x1 : Int32} {x2 : Int32} {S : jf_S} {out : jf_S} (h : jk_runs F x1 x2 S = some out) : jf_Mv l D E A fo pl yX5_runs cX5_runs 4 none 7 [.ref (E.1 5), .int x1, .int x2] S out :=
  jf_Mv_of (own := RX5) ⟨by decide, rfl, Nat.le_of_ble_eq_true rfl⟩ (fun hX => jk_runs_ok hX F x1 x2 S h)
theorem jo9_only_g_X4 : GoodIn lw_all (wsV RX4 134 RX9 yX9_only (ws_ yX9_only cX9_only 1 (some .int))) := lw_V q752 q753 q754 q117 q755
theorem jo9_only_d : yX9_only.cls = RX9 ∧ yX9_only.cls ≠ "java/lang/invoke/MethodHandle" ∧ yX9_only.cls ≠ "java/lang/invoke/VarHandle" ∧ (parseMethodDescriptor yX9_only.desc).map (fun d => d.parameters.length) = some 0 := by decide +kernel
theorem jo9_only_ok {out : Int32 × jf_S} (hX : jf_Ok RX9 p R s m args meth c A D E cX9_only 1 (some .int) 0) (F : Nat) (x0 : jo_R) {x0a : Nat} (x0h : jo_m0 pl x0a x0) (S : jf_S) (h : jo9_only F x0 S = some out) : jf_J p l e R s m args below meth c A D E fo pl 1 (jf_Qi below args s A D E fo pl out) 0 [(0, .ref x0a)] [] S := by
  intro H locs ls hP hS hl
  have hX0 := hX
  obtain ⟨hx, hb, hml, hown, hts, hlk, hr, hlv, hV, het⟩ := hX0
  unfold jo9_only at h
  refine lv_aload_n hx hb dX9_only_0 rfl (lv_at hl 0 rfl) ?_
  obtain ⟨q1, bq1, wq1, hq1, aq1, cq1⟩ := jo_f0 (E := E) (S := S) (fo := fo) x0h
  refine jf_get hx hb hts in_X9 hown hV hP (ci := 6) (k := 2) hq1 rfl (by decide) (hts _ q1068) rfl rfl dX9_only_1 ?_
  refine lv_if_ne (tgt := 17) hx hb dX9_only_4 rfl (fun c2 => ?_) (fun c2 => ?_)
  · rw [if_neg c2] at h
    refine lv_iconst hx hb dX9_only_17 jx_kim1 ?_
    exact jf_iret hx hb hr hlk hV hP hS h dX9_only_18
  · rw [if_pos c2] at h
    refine lv_aload_n hx hb dX9_only_7 rfl (lv_at hl 0 rfl) ?_
    obtain ⟨q3, bq3, wq3, hq3, aq3, cq3⟩ := jo_f0 (E := E) (S := S) (fo := fo) x0h
    refine jf_get hx hb hts in_X9 hown hV hP (ci := 6) (k := 3) hq3 rfl (by decide) (hts _ q1069) rfl rfl dX9_only_8 ?_
    obtain ⟨q4, hq4⟩ := jf_pool (E := E) (S := S) (fo := fo) aq3
    refine jf_getN hx hb hts in_X7 hown hV hP (ci := 5) (k := 0) hq4 rfl (by decide) (jf_l_X9_25 hV.2.2.1) rfl rfl dX9_only_11 ?_
    refine lv_goto (tgt := 18) hx hb dX9_only_14 rfl ?_
    exact jf_iret hx hb hr hlk hV hP hS h dX9_only_18
theorem jo9_only_met {l : Launch} {D : va_G} {E : jf_E} {A : Nat → Prop} {fo : Nat → Nat → Option Nat} {pl : va_W} {F : Nat} {x0 : jo_R} {x0a : Nat} (x0h : jo_m0 pl x0a x0) {S : jf_S} {out : Int32 × jf_S} (h : jo9_only F x0 S = some out) : jf_Mi l D E A fo pl yX9_only cX9_only 1 (some .int) 0 [.ref x0a] S out :=
  jf_Mi_of (own := RX9) ⟨by decide, rfl, Nat.le_of_ble_eq_true rfl⟩ (fun hX => jo9_only_ok hX F x0 x0h S h)
theorem jp_moves_g_X4 : GoodIn lw_all (wsV RX4 119 RX4 yX4_moves (ws_ yX4_moves cX4_moves 6 (some .boolean))) := lw_V q744 q746 qs7 q108 q747
theorem jp_moves_d : yX4_moves.cls = RX4 ∧ yX4_moves.cls ≠ "java/lang/invoke/MethodHandle" ∧ yX4_moves.cls ≠ "java/lang/invoke/VarHandle" ∧ (parseMethodDescriptor yX4_moves.desc).map (fun d => d.parameters.length) = some 1 := by decide +kernel
theorem jp_moves_b164_ok {out : Int32 × jf_S} (hX : jf_Ok RX4 p R s m args meth c A D E cX4_moves 6 (some .boolean) 1) (F : Nat) (o : Nat) (ho : o = 3 ∨ o = 4) (x2 : jo_R) {x2a : Nat} (x2h : jo_m0 pl x2a x2) (x3 : Int64) (x5 : Int32) (S : jf_S) (h : jp_moves_b164 F o x2 x3 x5 S = some out) : jf_J p l e R s m args below meth c A D E fo pl 6 (jf_Qi below args s A D E fo pl out) 164 [(0, .ref (E.1 o)), (2, .ref x2a), (3, .long x3), (5, .int x5)] [] S := by
  intro H locs ls hP hS hl
  have hX0 := hX
  obtain ⟨hx, hb, hml, hown, hts, hlk, hr, hlv, hV, het⟩ := hX0
  unfold jp_moves_b164 at h
  refine lv_lload_n hx hb dX4_moves_164 rfl (lv_at hl 2 rfl) ?_
  refine lv_aload_n hx hb dX4_moves_165 rfl (lv_at hl 0 rfl) ?_
  refine jf_get hx hb hts in_X4 hown hV hP (ci := 3) (k := 9) (jf_oP ho) rfl (by decide) (hts _ q299) rfl rfl dX4_moves_166 ?_
  refine lv_aload_n hx hb dX4_moves_169 rfl (lv_at hl 1 rfl) ?_
  obtain ⟨q1, bq1, wq1, hq1, aq1, cq1⟩ := jo_f0 (E := E) (S := S) (fo := fo) x2h
  refine jf_getN hx hb hts in_X9 hown hV hP (ci := 6) (k := 1) hq1 rfl (by decide) (jf_l_X4_133 hV.2.2.1) rfl rfl dX4_moves_170 ?_
  obtain ⟨j2, ej2, bj2, h⟩ := jx_ga_some h
  refine jf_lald hx hb hV hP (jf_aP9 ho) ej2 bj2 dX4_moves_173 ?_
  refine W.lcmp hx hb dX4_moves_174 ?_
  refine lv_if_ne (tgt := 187) hx hb dX4_moves_175 rfl (fun c3 => ?_) (fun c3 => ?_)
  · rw [if_neg c3] at h
    refine lv_iconst hx hb dX4_moves_187 jx_ki1 ?_
    refine lv_goto (tgt := 192) hx hb dX4_moves_188 rfl ?_
    exact jf_zret hx hb hr hlk hV hP hS jx_nz1 h dX4_moves_192
  · rw [if_pos c3] at h
    refine lv_iload hx hb dX4_moves_178 (lv_at hl 3 rfl) ?_
    refine lv_aload_n hx hb dX4_moves_180 rfl (lv_at hl 0 rfl) ?_
    refine jf_get hx hb hts in_X4 hown hV hP (ci := 3) (k := 17) (jf_oP ho) rfl (by decide) (hts _ q318) rfl rfl dX4_moves_181 ?_
    refine lv_icmp_eq (tgt := 191) hx hb dX4_moves_184 rfl (fun c4 => ?_) (fun c4 => ?_)
    · rw [if_pos c4] at h
      refine lv_iconst hx hb dX4_moves_191 jx_ki0 ?_
      exact jf_zret hx hb hr hlk hV hP hS jx_nz0 h dX4_moves_192
    · rw [if_neg c4] at h
      refine lv_iconst hx hb dX4_moves_187 jx_ki1 ?_
      refine lv_goto (tgt := 192) hx hb dX4_moves_188 rfl ?_
      exact jf_zret hx hb hr hlk hV hP hS jx_nz1 h dX4_moves_192
theorem jp_moves_ok {out : Int32 × jf_S} (hX : jf_Ok RX4 p R s m args meth c A D E cX4_moves 6 (some .boolean) 1) (F : Nat) (o : Nat) (ho : o = 3 ∨ o = 4) (x1 : jo_R) {x1a : Nat} (x1h : jo_Is pl x1a x1) (S : jf_S) (h : jp_moves F o x1 S = some out) : jf_J p l e R s m args below meth c A D E fo pl 6 (jf_Qi below args s A D E fo pl out) 0 [(0, .ref (E.1 o)), (1, .ref x1a)] [] S := by
  intro H locs ls hP hS hl
  have hX0 := hX
  obtain ⟨hx, hb, hml, hown, hts, hlk, hr, hlv, hV, het⟩ := hX0
  unfold jp_moves at h
  refine lv_aload_n hx hb dX4_moves_0 rfl (lv_at hl 1 rfl) ?_
  obtain ⟨q1, eq1, h⟩ := jx_bi_some h
  refine jv_word_X4 hx hb hml hown hts hlv hV x1h eq1 (Nat.le_of_ble_eq_true rfl) hP hS hl.1 rfl rfl (lv_room (Nat.le_of_ble_eq_true rfl)) dX4_moves_1 (fun H locs hP hS => ?_)
  refine lv_iconst hx hb dX4_moves_4 jx_ki1 ?_
  refine lv_icmp_ne (tgt := 62) hx hb dX4_moves_5 rfl (fun c2 => ?_) (fun c2 => ?_)
  · rw [if_neg c2] at h
    refine lv_aload_n hx hb dX4_moves_62 rfl (lv_at hl 1 rfl) ?_
    obtain ⟨q3, eq3, h⟩ := jx_bi_some h
    refine jv_word_X4 hx hb hml hown hts hlv hV x1h eq3 (Nat.le_of_ble_eq_true rfl) hP hS hl.1 rfl rfl (lv_room (Nat.le_of_ble_eq_true rfl)) dX4_moves_63 (fun H locs hP hS => ?_)
    refine lv_if_eq (tgt := 71) hx hb dX4_moves_66 rfl (fun c4 => ?_) (fun c4 => ?_)
    · rw [if_pos c4] at h
      refine lv_aload_n hx hb dX4_moves_71 rfl (lv_at hl 1 rfl) ?_
      obtain ⟨e5, h⟩ := jx_ge_some h
      have m6 := jo_is0 x1h e5
      obtain ⟨q7, _, _, hq7, _, _⟩ := jo_f0 (E := E) (S := q3.2) (fo := fo) m6
      refine va_castS hx hb hown (hts _ q751) (hV.1.1 6 _ rfl).2 (va_recv hV.1 hP.1 (ci := 6) rfl hq7) dX4_moves_72 ?_
      refine lv_astore_n (lv' := [(2, .ref x1a), (0, .ref (E.1 o)), (1, .ref x1a)]) hx hb dX4_moves_75 rfl hl (Nat.le_of_ble_eq_true rfl) rfl (fun ls hl => ?_)
      refine lv_aload_n hx hb dX4_moves_76 rfl (lv_at hl 1 rfl) ?_
      refine jf_get hx hb hts in_X4 hown hV hP (ci := 3) (k := 9) (jf_oP ho) rfl (by decide) (hts _ q299) rfl rfl dX4_moves_77 ?_
      refine lv_aload_n hx hb dX4_moves_80 rfl (lv_at hl 0 rfl) ?_
      obtain ⟨q8, bq8, wq8, hq8, aq8, cq8⟩ := jo_f0 (E := E) (S := q3.2) (fo := fo) m6
      refine jf_getN hx hb hts in_X9 hown hV hP (ci := 6) (k := 1) hq8 rfl (by decide) (jf_l_X4_133 hV.2.2.1) rfl rfl dX4_moves_81 ?_
      obtain ⟨j9, ej9, bj9, h⟩ := jx_ga_some h
      refine jf_lald hx hb hV hP (jf_aP9 ho) ej9 bj9 dX4_moves_84 ?_
      obtain ⟨y10, ey10, h⟩ := jx_nx_some h
      refine jx_topl ey10 ?_
      refine lv_lstore_n (lv' := [(3, .long y10), (2, .ref x1a), (0, .ref (E.1 o)), (1, .ref x1a)]) hx hb dX4_moves_85 rfl hl (Nat.le_of_ble_eq_true rfl) rfl (fun ls hl => ?_)
      refine lv_aload_n hx hb dX4_moves_86 rfl (lv_at hl 2 rfl) ?_
      refine jf_get hx hb hts in_X4 hown hV hP (ci := 3) (k := 17) (jf_oP ho) rfl (by decide) (hts _ q318) rfl rfl dX4_moves_87 ?_
      obtain ⟨y11, ey11, h⟩ := jx_nx_some h
      refine jx_topi ey11 ?_
      refine lv_istore (lv' := [(5, .int y11), (3, .long y10), (2, .ref x1a), (0, .ref (E.1 o)), (1, .ref x1a)]) hx hb dX4_moves_90 hl (Nat.le_of_ble_eq_true rfl) rfl (fun ls hl => ?_)
      refine lv_aload_n hx hb dX4_moves_92 rfl (lv_at hl 2 rfl) ?_
      obtain ⟨q12, eq12, h⟩ := jx_bi_some h
      obtain ⟨q13, _, _, hq13, _, _⟩ := jo_f0 (E := E) (S := q3.2) (fo := fo) m6
      refine jf_callI hx hb hml hown hts hlv hV (jo9_only_met m6 eq12) jo9_only_g_X4 jo9_only_d (As := []) (Nat.le_of_ble_eq_true rfl) (Nat.le_of_ble_eq_true rfl) hP hS (ci := 6) hq13 rfl hl.1 rfl rfl (lv_room (Nat.le_of_ble_eq_true rfl)) dX4_moves_93 (fun H locs hP hS => ?_)
      refine lv_iconst hx hb dX4_moves_96 jx_kim1 ?_
      refine lv_icmp_ne (tgt := 118) hx hb dX4_moves_97 rfl (fun c14 => ?_) (fun c14 => ?_)
      · rw [if_neg c14] at h
        refine lv_aload_n hx hb dX4_moves_118 rfl (lv_at hl 3 rfl) ?_
        refine jf_get hx hb hts in_X4 hown hV hP (ci := 3) (k := 9) (jf_oP ho) rfl (by decide) (hts _ q299) rfl rfl dX4_moves_119 ?_
        refine lv_aload_n hx hb dX4_moves_122 rfl (lv_at hl 2 rfl) ?_
        obtain ⟨q15, bq15, wq15, hq15, aq15, cq15⟩ := jo_f0 (E := E) (S := q12.2) (fo := fo) m6
        refine jf_getN hx hb hts in_X9 hown hV hP (ci := 6) (k := 1) hq15 rfl (by decide) (jf_l_X4_133 hV.2.2.1) rfl rfl dX4_moves_123 ?_
        refine lv_dup2_11 hx hb dX4_moves_126 rfl rfl ?_
        obtain ⟨j16, ej16, bj16, h⟩ := jx_ga_some h
        refine jf_lald hx hb hV hP (jf_aP9 ho) ej16 bj16 dX4_moves_127 ?_
        refine lv_aload_n hx hb dX4_moves_128 rfl (lv_at hl 3 rfl) ?_
        refine jf_get hx hb hts in_X4 hown hV hP (ci := 3) (k := 9) (jf_oP ho) rfl (by decide) (hts _ q299) rfl rfl dX4_moves_129 ?_
        refine lv_aload_n hx hb dX4_moves_132 rfl (lv_at hl 2 rfl) ?_
        obtain ⟨q17, eq17, h⟩ := jx_bi_some h
        obtain ⟨q18, _, _, hq18, _, _⟩ := jo_f0 (E := E) (S := q12.2) (fo := fo) m6
        refine jf_callI hx hb hml hown hts hlv hV (jo9_only_met m6 eq17) jo9_only_g_X4 jo9_only_d (As := []) (Nat.le_of_ble_eq_true rfl) (Nat.le_of_ble_eq_true rfl) hP hS (ci := 6) hq18 rfl hl.1 rfl rfl (lv_room (Nat.le_of_ble_eq_true rfl)) dX4_moves_133 (fun H locs hP hS => ?_)
        obtain ⟨j19, ej19, bj19, h⟩ := jx_ga_some h
        refine jf_lald hx hb hV hP (jf_aP9 ho) ej19 bj19 dX4_moves_136 ?_
        refine lv_lor hx hb dX4_moves_137 ?_
        obtain ⟨j20, ej20, bj20, h⟩ := jx_ga_some h
        obtain ⟨S21, eS21, h⟩ := jx_nx_some h
        refine jf_last hx hb hV hP hS (jf_aP9 ho) ej20 bj20 eS21 dX4_moves_138 (fun H locs hP hS => ?_)
        refine lv_aload_n hx hb dX4_moves_139 rfl (lv_at hl 3 rfl) ?_
        refine lv_dup hx hb dX4_moves_140 rfl ?_
        refine jf_get hx hb hts in_X4 hown hV hP (ci := 3) (k := 17) (jf_oP ho) rfl (by decide) (hts _ q318) rfl rfl dX4_moves_141 ?_
        refine lv_aload_n hx hb dX4_moves_144 rfl (lv_at hl 3 rfl) ?_
        refine jf_get hx hb hts in_X4 hown hV hP (ci := 3) (k := 17) (jf_oP ho) rfl (by decide) (hts _ q318) rfl rfl dX4_moves_145 ?_
        refine lv_aload_n hx hb dX4_moves_148 rfl (lv_at hl 2 rfl) ?_
        obtain ⟨q22, eq22, h⟩ := jx_bi_some h
        obtain ⟨q23, _, _, hq23, _, _⟩ := jo_f0 (E := E) (S := S21) (fo := fo) m6
        refine jf_callI hx hb hml hown hts hlv hV (jo9_only_met m6 eq22) jo9_only_g_X4 jo9_only_d (As := []) (Nat.le_of_ble_eq_true rfl) (Nat.le_of_ble_eq_true rfl) hP hS (ci := 6) hq23 rfl hl.1 rfl rfl (lv_room (Nat.le_of_ble_eq_true rfl)) dX4_moves_149 (fun H locs hP hS => ?_)
        refine lv_ishr hx hb dX4_moves_152 ?_
        refine lv_iconst hx hb dX4_moves_153 jx_ki1 ?_
        refine lv_iand hx hb dX4_moves_154 ?_
        refine lv_aload_n hx hb dX4_moves_155 rfl (lv_at hl 2 rfl) ?_
        obtain ⟨q24, bq24, wq24, hq24, aq24, cq24⟩ := jo_f0 (E := E) (S := q22.2) (fo := fo) m6
        refine jf_getN hx hb hts in_X9 hown hV hP (ci := 6) (k := 1) hq24 rfl (by decide) (jf_l_X4_133 hV.2.2.1) rfl rfl dX4_moves_156 ?_
        refine lv_ishl hx hb dX4_moves_159 ?_
        refine lv_ior hx hb dX4_moves_160 ?_
        obtain ⟨S25, eS25, h⟩ := jx_nx_some h
        refine jf_put (S1 := S25) hx hb hts in_X4 tyX4_ok nmX4 hown hV hP hS (ci := 3) (k := 17) (by rw [eS25]; rfl) (jf_oP ho) (by rw [eS25]; exact (jf_sP17 ho) _) rfl (by decide) (hts _ q318) rfl rfl (tyX4_ok 17 (by decide)) ⟨rfl, rfl⟩ (Nat.le_of_ble_eq_true rfl) dX4_moves_161 (fun H locs hP hS => ?_)
        exact jp_moves_b164_ok hX F o ho _ m6 _ _ _ h _ _ _ hP hS (lv_sub hl [3, 2, 1, 0] rfl)
      · rw [if_pos c14] at h
        refine lv_aload_n hx hb dX4_moves_100 rfl (lv_at hl 3 rfl) ?_
        refine lv_dup hx hb dX4_moves_101 rfl ?_
        refine jf_get hx hb hts in_X4 hown hV hP (ci := 3) (k := 17) (jf_oP ho) rfl (by decide) (hts _ q318) rfl rfl dX4_moves_102 ?_
        refine lv_iconst hx hb dX4_moves_105 jx_ki1 ?_
        refine lv_aload_n hx hb dX4_moves_106 rfl (lv_at hl 2 rfl) ?_
        obtain ⟨q26, bq26, wq26, hq26, aq26, cq26⟩ := jo_f0 (E := E) (S := q12.2) (fo := fo) m6
        refine jf_getN hx hb hts in_X9 hown hV hP (ci := 6) (k := 1) hq26 rfl (by decide) (jf_l_X4_133 hV.2.2.1) rfl rfl dX4_moves_107 ?_
        refine lv_ishl hx hb dX4_moves_110 ?_
        refine lv_ior hx hb dX4_moves_111 ?_
        obtain ⟨S27, eS27, h⟩ := jx_nx_some h
        refine jf_put (S1 := S27) hx hb hts in_X4 tyX4_ok nmX4 hown hV hP hS (ci := 3) (k := 17) (by rw [eS27]; rfl) (jf_oP ho) (by rw [eS27]; exact (jf_sP17 ho) _) rfl (by decide) (hts _ q318) rfl rfl (tyX4_ok 17 (by decide)) ⟨rfl, rfl⟩ (Nat.le_of_ble_eq_true rfl) dX4_moves_112 (fun H locs hP hS => ?_)
        refine lv_goto (tgt := 164) hx hb dX4_moves_115 rfl ?_
        exact jp_moves_b164_ok hX F o ho _ m6 _ _ _ h _ _ _ hP hS (lv_sub hl [3, 2, 1, 0] rfl)
    · rw [if_neg c4] at h
      refine lv_iconst hx hb dX4_moves_69 jx_ki0 ?_
      exact jf_zret hx hb hr hlk hV hP hS jx_nz0 h dX4_moves_70
  · rw [if_pos c2] at h
    refine lv_aload_n hx hb dX4_moves_8 rfl (lv_at hl 1 rfl) ?_
    obtain ⟨e28, h⟩ := jx_ge_some h
    have m29 := jo_is1 x1h e28
    obtain ⟨q30, hq30⟩ := jf_pool (E := E) (S := q1.2) (fo := fo) m29
    refine va_castS hx hb hown (hts _ q749) (hV.1.1 7 _ rfl).2 (va_recv hV.1 hP.1 (ci := 7) rfl hq30) dX4_moves_9 ?_
    refine lv_astore_n (lv' := [(2, .ref x1a), (0, .ref (E.1 o)), (1, .ref x1a)]) hx hb dX4_moves_12 rfl hl (Nat.le_of_ble_eq_true rfl) rfl (fun ls hl => ?_)
    refine lv_aload_n hx hb dX4_moves_13 rfl (lv_at hl 1 rfl) ?_
    refine jf_get hx hb hts in_X4 hown hV hP (ci := 3) (k := 9) (jf_oP ho) rfl (by decide) (hts _ q299) rfl rfl dX4_moves_14 ?_
    refine lv_aload_n hx hb dX4_moves_17 rfl (lv_at hl 0 rfl) ?_
    obtain ⟨q31, hq31⟩ := jf_pool (E := E) (S := q1.2) (fo := fo) m29
    refine jf_getN hx hb hts in_X10 hown hV hP (ci := 7) (k := 1) hq31 rfl (by decide) (jf_l_X4_125 hV.2.2.1) rfl rfl dX4_moves_18 ?_
    obtain ⟨j32, ej32, bj32, h⟩ := jx_ga_some h
    refine jf_lald hx hb hV hP (jf_aP9 ho) ej32 bj32 dX4_moves_21 ?_
    obtain ⟨y33, ey33, h⟩ := jx_nx_some h
    refine jx_topl ey33 ?_
    refine lv_lstore_n (lv' := [(3, .long y33), (2, .ref x1a), (0, .ref (E.1 o)), (1, .ref x1a)]) hx hb dX4_moves_22 rfl hl (Nat.le_of_ble_eq_true rfl) rfl (fun ls hl => ?_)
    refine lv_aload_n hx hb dX4_moves_23 rfl (lv_at hl 2 rfl) ?_
    refine jf_get hx hb hts in_X4 hown hV hP (ci := 3) (k := 9) (jf_oP ho) rfl (by decide) (hts _ q299) rfl rfl dX4_moves_24 ?_
    refine lv_aload_n hx hb dX4_moves_27 rfl (lv_at hl 1 rfl) ?_
    obtain ⟨q34, hq34⟩ := jf_pool (E := E) (S := q1.2) (fo := fo) m29
    refine jf_getN hx hb hts in_X10 hown hV hP (ci := 7) (k := 1) hq34 rfl (by decide) (jf_l_X4_125 hV.2.2.1) rfl rfl dX4_moves_28 ?_
    refine lv_dup2_11 hx hb dX4_moves_31 rfl rfl ?_
    obtain ⟨j35, ej35, bj35, h⟩ := jx_ga_some h
    refine jf_lald hx hb hV hP (jf_aP9 ho) ej35 bj35 dX4_moves_32 ?_
    refine lv_aload_n hx hb dX4_moves_33 rfl (lv_at hl 1 rfl) ?_
    obtain ⟨q36, hq36⟩ := jf_pool (E := E) (S := q1.2) (fo := fo) m29
    refine jf_getN hx hb hts in_X10 hown hV hP (ci := 7) (k := 2) hq36 rfl (by decide) (jf_l_X4_128 hV.2.2.1) rfl rfl dX4_moves_34 ?_
    obtain ⟨q37, eq37, h⟩ := jx_bi_some h
    refine jx_callSNl hx hb hml hown hts (jf_nm_X4_89 hV.2.2.1) (jf_bit_met eq37) jf_bit_c jf_bit_s jf_bit_i jf_bit_d (As := [.int (x1 4)]) (⟨Nat.le_trans (Nat.le_of_ble_eq_true rfl) hlv.1, Nat.le_trans (Nat.le_of_ble_eq_true rfl) hlv.2⟩) hl.1 rfl rfl (lv_room (Nat.le_of_ble_eq_true rfl)) dX4_moves_37 ⟨Nat.zero_le _, Nat.zero_le _⟩ ?_
    refine lv_lor hx hb dX4_moves_40 ?_
    obtain ⟨j38, ej38, bj38, h⟩ := jx_ga_some h
    obtain ⟨S39, eS39, h⟩ := jx_nx_some h
    refine jf_last hx hb hV hP hS (jf_aP9 ho) ej38 bj38 eS39 dX4_moves_41 (fun H locs hP hS => ?_)
    refine lv_lload_n hx hb dX4_moves_42 rfl (lv_at hl 0 rfl) ?_
    refine lv_aload_n hx hb dX4_moves_43 rfl (lv_at hl 2 rfl) ?_
    refine jf_get hx hb hts in_X4 hown hV hP (ci := 3) (k := 9) (jf_oP ho) rfl (by decide) (hts _ q299) rfl rfl dX4_moves_44 ?_
    refine lv_aload_n hx hb dX4_moves_47 rfl (lv_at hl 1 rfl) ?_
    obtain ⟨q40, hq40⟩ := jf_pool (E := E) (S := S39) (fo := fo) m29
    refine jf_getN hx hb hts in_X10 hown hV hP (ci := 7) (k := 1) hq40 rfl (by decide) (jf_l_X4_125 hV.2.2.1) rfl rfl dX4_moves_48 ?_
    obtain ⟨j41, ej41, bj41, h⟩ := jx_ga_some h
    refine jf_lald hx hb hV hP (jf_aP9 ho) ej41 bj41 dX4_moves_51 ?_
    refine W.lcmp hx hb dX4_moves_52 ?_
    refine lv_if_eq (tgt := 60) hx hb dX4_moves_53 rfl (fun c42 => ?_) (fun c42 => ?_)
    · rw [if_pos c42] at h
      refine lv_iconst hx hb dX4_moves_60 jx_ki0 ?_
      exact jf_zret hx hb hr hlk hV hP hS jx_nz0 h dX4_moves_61
    · rw [if_neg c42] at h
      refine lv_iconst hx hb dX4_moves_56 jx_ki1 ?_
      refine lv_goto (tgt := 61) hx hb dX4_moves_57 rfl ?_
      exact jf_zret hx hb hr hlk hV hP hS jx_nz1 h dX4_moves_61
theorem jp_moves_met {l : Launch} {D : va_G} {E : jf_E} {A : Nat → Prop} {fo : Nat → Nat → Option Nat} {pl : va_W} {F : Nat} {o : Nat} (ho : o = 3 ∨ o = 4) {x1 : jo_R} {x1a : Nat} (x1h : jo_Is pl x1a x1) {S : jf_S} {out : Int32 × jf_S} (h : jp_moves F o x1 S = some out) : jf_Mi l D E A fo pl yX4_moves cX4_moves 6 (some .boolean) 1 [.ref (E.1 o), .ref x1a] S out :=
  jf_Mi_of (own := RX4) ⟨by decide, rfl, Nat.le_of_ble_eq_true rfl⟩ (fun hX => jp_moves_ok hX F o ho x1 x1h S h)
theorem jp_cells_g_X4 : GoodIn lw_all (wsV RX4 78 RX4 yX4_cells (ws_ yX4_cells cX4_cells 3 none)) := lw_V q740 q742 qs6 q108 q743
theorem jp_cells_d : yX4_cells.cls = RX4 ∧ yX4_cells.cls ≠ "java/lang/invoke/MethodHandle" ∧ yX4_cells.cls ≠ "java/lang/invoke/VarHandle" ∧ (parseMethodDescriptor yX4_cells.desc).map (fun d => d.parameters.length) = some 0 := by decide +kernel
theorem jp_cells_b66_ok {out : jf_S} (hX : jf_Ok RX4 p R s m args meth c A D E cX4_cells 3 none 2) (F : Nat) (o : Nat) (ho : o = 3 ∨ o = 4) {r28 : Int32 × jf_S → Option (jf_S)} (hr28 : ∀ a, r28 a = some out → jf_J p l e R s m args below meth c A D E fo pl 3 (jf_Qv below args s A D E fo pl out) 28 [(0, .ref (E.1 o)), (1, .int a.1)] [] a.2) {r36 : Int32 × Int32 × jf_S → Option (jf_S)} (hr36 : ∀ a, r36 a = some out → jf_J p l e R s m args below meth c A D E fo pl 3 (jf_Qv below args s A D E fo pl out) 36 [(0, .ref (E.1 o)), (1, .int a.1), (2, .int a.2.1)] [] a.2.2) (x2 : Int32) (k0 : Int32) (S : jf_S) (h : jp_cells_b66 F o r28 r36 x2 k0 S = some out) : jf_J p l e R s m args below meth c A D E fo pl 3 (jf_Qv below args s A D E fo pl out) 66 [(0, .ref (E.1 o)), (2, .int x2)] [.int k0] S := by
  intro H locs ls hP hS hl
  have hX0 := hX
  obtain ⟨hx, hb, hml, hown, hts, hlk, hr, hlv, hV, het⟩ := hX0
  unfold jp_cells_b66 at h
  refine lv_istore_n (lv' := [(1, .int k0), (0, .ref (E.1 o)), (2, .int x2)]) hx hb dX4_cells_66 rfl hl (Nat.le_of_ble_eq_true rfl) rfl (fun ls hl => ?_)
  obtain ⟨y1, ey1, h⟩ := jx_nx_some h
  refine lv_iinc (v := y1) (lv' := [(2, .int y1), (1, .int k0), (0, .ref (E.1 o))]) hx hb dX4_cells_67 hl (k := 2) rfl (jx_inc jx_ki1 ey1) (Nat.le_of_ble_eq_true rfl) rfl (fun ls hl => ?_)
  refine lv_goto (tgt := 36) hx hb dX4_cells_70 rfl ?_
  exact hr36 _ h _ _ _ hP hS (lv_sub hl [2, 1, 0] rfl)
theorem jp_cells_b61_ok {out : jf_S} (hX : jf_Ok RX4 p R s m args meth c A D E cX4_cells 3 none 2) (F : Nat) (o : Nat) (ho : o = 3 ∨ o = 4) {r28 : Int32 × jf_S → Option (jf_S)} (hr28 : ∀ a, r28 a = some out → jf_J p l e R s m args below meth c A D E fo pl 3 (jf_Qv below args s A D E fo pl out) 28 [(0, .ref (E.1 o)), (1, .int a.1)] [] a.2) {r36 : Int32 × Int32 × jf_S → Option (jf_S)} (hr36 : ∀ a, r36 a = some out → jf_J p l e R s m args below meth c A D E fo pl 3 (jf_Qv below args s A D E fo pl out) 36 [(0, .ref (E.1 o)), (1, .int a.1), (2, .int a.2.1)] [] a.2.2) (x2 : Int32) (S : jf_S) (h : jp_cells_b61 F o r28 r36 x2 S = some out) : jf_J p l e R s m args below meth c A D E fo pl 3 (jf_Qv below args s A D E fo pl out) 61 [(0, .ref (E.1 o)), (2, .int x2)] [] S := by
  intro H locs ls hP hS hl
  have hX0 := hX
  obtain ⟨hx, hb, hml, hown, hts, hlk, hr, hlv, hV, het⟩ := hX0
  unfold jp_cells_b61 at h
  refine lv_iconst hx hb dX4_cells_61 jx_ki1 ?_
  refine lv_goto (tgt := 66) hx hb dX4_cells_62 rfl ?_
  exact jp_cells_b66_ok hX F o ho hr28 hr36 _ _ _ h _ _ _ hP hS hl
theorem jp_cells_L36_ok {out : jf_S} (hX : jf_Ok RX4 p R s m args meth c A D E cX4_cells 3 none 2) (F : Nat) (o : Nat) (ho : o = 3 ∨ o = 4) {r28 : Int32 × jf_S → Option (jf_S)} (hr28 : ∀ a, r28 a = some out → jf_J p l e R s m args below meth c A D E fo pl 3 (jf_Qv below args s A D E fo pl out) 28 [(0, .ref (E.1 o)), (1, .int a.1)] [] a.2) {r36 : Int32 × Int32 × jf_S → Option (jf_S)} (hr36 : ∀ a, r36 a = some out → jf_J p l e R s m args below meth c A D E fo pl 3 (jf_Qv below args s A D E fo pl out) 36 [(0, .ref (E.1 o)), (1, .int a.1), (2, .int a.2.1)] [] a.2.2) (x1 : Int32) (x2 : Int32) (S : jf_S) (h : jp_cells_L36 F o r28 r36 x1 x2 S = some out) : jf_J p l e R s m args below meth c A D E fo pl 3 (jf_Qv below args s A D E fo pl out) 36 [(0, .ref (E.1 o)), (1, .int x1), (2, .int x2)] [] S := by
  intro H locs ls hP hS hl
  have hX0 := hX
  obtain ⟨hx, hb, hml, hown, hts, hlk, hr, hlv, hV, het⟩ := hX0
  unfold jp_cells_L36 at h
  refine lv_iload_n hx hb dX4_cells_36 rfl (lv_at hl 2 rfl) ?_
  refine lv_aload_n hx hb dX4_cells_37 rfl (lv_at hl 0 rfl) ?_
  refine jf_get hx hb hts in_X4 hown hV hP (ci := 3) (k := 13) (jf_oP ho) rfl (by decide) (hts _ q308) rfl rfl dX4_cells_38 ?_
  refine lv_icmp_ge (tgt := 73) hx hb dX4_cells_41 rfl (fun c1 => ?_) (fun c1 => ?_)
  · rw [if_pos c1] at h
    refine lv_goto (tgt := 28) hx hb dX4_cells_73 rfl ?_
    exact hr28 _ h _ _ _ hP hS (lv_sub hl [0, 1] rfl)
  · rw [if_neg c1] at h
    refine lv_aload_n hx hb dX4_cells_44 rfl (lv_at hl 0 rfl) ?_
    refine lv_aload_n hx hb dX4_cells_45 rfl (lv_at hl 0 rfl) ?_
    refine jf_get hx hb hts in_X4 hown hV hP (ci := 3) (k := 0) (jf_oP ho) rfl (by decide) (hts _ q275) rfl rfl dX4_cells_46 ?_
    refine lv_iload_n hx hb dX4_cells_49 rfl (lv_at hl 2 rfl) ?_
    obtain ⟨j2, ej2, bj2, h⟩ := jx_ga_some h
    obtain ⟨r3, er3, h⟩ := jx_bi_some h
    refine jf_qald hx hb hV hP (jf_aP0 ho) ej2 bj2 er3 dX4_cells_50 (fun r3a r3h => ?_)
    obtain ⟨q4, eq4, h⟩ := jx_bi_some h
    refine jf_callI hx hb hml hown hts hlv hV (jp_moves_met ho r3h eq4) jp_moves_g_X4 jp_moves_d (As := [.ref r3a]) (Nat.le_of_ble_eq_true rfl) (Nat.le_of_ble_eq_true rfl) hP hS (ci := 3) (jf_oP ho) rfl hl.1 rfl rfl (lv_room (Nat.le_of_ble_eq_true rfl)) dX4_cells_51 (fun H locs hP hS => ?_)
    refine lv_if_ne (tgt := 61) hx hb dX4_cells_54 rfl (fun c5 => ?_) (fun c5 => ?_)
    · rw [if_neg c5] at h
      exact jp_cells_b61_ok hX F o ho hr28 hr36 _ _ h _ _ _ hP hS (lv_sub hl [0, 2] rfl)
    · rw [if_pos c5] at h
      refine lv_iload_n hx hb dX4_cells_57 rfl (lv_at hl 1 rfl) ?_
      refine lv_if_eq (tgt := 65) hx hb dX4_cells_58 rfl (fun c6 => ?_) (fun c6 => ?_)
      · rw [if_pos c6] at h
        refine lv_iconst hx hb dX4_cells_65 jx_ki0 ?_
        exact jp_cells_b66_ok hX F o ho hr28 hr36 _ _ _ h _ _ _ hP hS (lv_sub hl [0, 2] rfl)
      · rw [if_neg c6] at h
        exact jp_cells_b61_ok hX F o ho hr28 hr36 _ _ h _ _ _ hP hS (lv_sub hl [0, 2] rfl)
theorem jp_cells_h36_ok {out : jf_S} (hX : jf_Ok RX4 p R s m args meth c A D E cX4_cells 3 none 2) (F : Nat) (o : Nat) (ho : o = 3 ∨ o = 4) {r28 : Int32 × jf_S → Option (jf_S)} (hr28 : ∀ a, r28 a = some out → jf_J p l e R s m args below meth c A D E fo pl 3 (jf_Qv below args s A D E fo pl out) 28 [(0, .ref (E.1 o)), (1, .int a.1)] [] a.2) (n : Nat) (a : Int32 × Int32 × jf_S) (h : jp_cells_h36 F o r28 n a = some out) : jf_J p l e R s m args below meth c A D E fo pl 3 (jf_Qv below args s A D E fo pl out) 36 [(0, .ref (E.1 o)), (1, .int a.1), (2, .int a.2.1)] [] a.2.2 :=
  jx_loop_ind (J := fun a => jf_J p l e R s m args below meth c A D E fo pl 3 (jf_Qv below args s A D E fo pl out) 36 [(0, .ref (E.1 o)), (1, .int a.1), (2, .int a.2.1)] [] a.2.2) (fun r hr a h => jp_cells_L36_ok hX F o ho hr28 hr a.1 a.2.1 a.2.2 h) n a h
theorem jp_cells_L28_ok {out : jf_S} (hX : jf_Ok RX4 p R s m args meth c A D E cX4_cells 3 none 2) (F : Nat) (o : Nat) (ho : o = 3 ∨ o = 4) {r28 : Int32 × jf_S → Option (jf_S)} (hr28 : ∀ a, r28 a = some out → jf_J p l e R s m args below meth c A D E fo pl 3 (jf_Qv below args s A D E fo pl out) 28 [(0, .ref (E.1 o)), (1, .int a.1)] [] a.2) (x1 : Int32) (S : jf_S) (h : jp_cells_L28 F o r28 x1 S = some out) : jf_J p l e R s m args below meth c A D E fo pl 3 (jf_Qv below args s A D E fo pl out) 28 [(0, .ref (E.1 o)), (1, .int x1)] [] S := by
  intro H locs ls hP hS hl
  have hX0 := hX
  obtain ⟨hx, hb, hml, hown, hts, hlk, hr, hlv, hV, het⟩ := hX0
  unfold jp_cells_L28 at h
  refine lv_iload_n hx hb dX4_cells_28 rfl (lv_at hl 1 rfl) ?_
  refine lv_if_eq (tgt := 76) hx hb dX4_cells_29 rfl (fun c1 => ?_) (fun c1 => ?_)
  · rw [if_pos c1] at h
    exact jf_vret hx hb hr hlk hV hP hS h dX4_cells_76
  · rw [if_neg c1] at h
    refine lv_iconst hx hb dX4_cells_32 jx_ki0 ?_
    obtain ⟨y2, ey2, h⟩ := jx_nx_some h
    refine jx_topi ey2 ?_
    refine lv_istore_n (lv' := [(1, .int y2), (0, .ref (E.1 o))]) hx hb dX4_cells_33 rfl hl (Nat.le_of_ble_eq_true rfl) rfl (fun ls hl => ?_)
    refine lv_iconst hx hb dX4_cells_34 jx_ki0 ?_
    obtain ⟨y3, ey3, h⟩ := jx_nx_some h
    refine jx_topi ey3 ?_
    refine lv_istore_n (lv' := [(2, .int y3), (1, .int y2), (0, .ref (E.1 o))]) hx hb dX4_cells_35 rfl hl (Nat.le_of_ble_eq_true rfl) rfl (fun ls hl => ?_)
    exact jp_cells_h36_ok hX F o ho hr28 F _ h _ _ _ hP hS (lv_sub hl [2, 1, 0] rfl)
theorem jp_cells_h28_ok {out : jf_S} (hX : jf_Ok RX4 p R s m args meth c A D E cX4_cells 3 none 2) (F : Nat) (o : Nat) (ho : o = 3 ∨ o = 4) (n : Nat) (a : Int32 × jf_S) (h : jp_cells_h28 F o n a = some out) : jf_J p l e R s m args below meth c A D E fo pl 3 (jf_Qv below args s A D E fo pl out) 28 [(0, .ref (E.1 o)), (1, .int a.1)] [] a.2 :=
  jx_loop_ind (J := fun a => jf_J p l e R s m args below meth c A D E fo pl 3 (jf_Qv below args s A D E fo pl out) 28 [(0, .ref (E.1 o)), (1, .int a.1)] [] a.2) (fun r hr a h => jp_cells_L28_ok hX F o ho hr a.1 a.2 h) n a h
theorem jp_cells_L7_ok {out : jf_S} (hX : jf_Ok RX4 p R s m args meth c A D E cX4_cells 3 none 2) (F : Nat) (o : Nat) (ho : o = 3 ∨ o = 4) {r7 : Int32 × jf_S → Option (jf_S)} (hr7 : ∀ a, r7 a = some out → jf_J p l e R s m args below meth c A D E fo pl 3 (jf_Qv below args s A D E fo pl out) 7 [(0, .ref (E.1 o)), (1, .int a.1)] [] a.2) (x1 : Int32) (S : jf_S) (h : jp_cells_L7 F o r7 x1 S = some out) : jf_J p l e R s m args below meth c A D E fo pl 3 (jf_Qv below args s A D E fo pl out) 7 [(0, .ref (E.1 o)), (1, .int x1)] [] S := by
  intro H locs ls hP hS hl
  have hX0 := hX
  obtain ⟨hx, hb, hml, hown, hts, hlk, hr, hlv, hV, het⟩ := hX0
  unfold jp_cells_L7 at h
  refine lv_iload_n hx hb dX4_cells_7 rfl (lv_at hl 1 rfl) ?_
  refine lv_bipush hx hb dX4_cells_8 jx_kb16 ?_
  refine lv_icmp_ge (tgt := 26) hx hb dX4_cells_10 rfl (fun c1 => ?_) (fun c1 => ?_)
  · rw [if_pos c1] at h
    refine lv_iconst hx hb dX4_cells_26 jx_ki1 ?_
    obtain ⟨y2, ey2, h⟩ := jx_nx_some h
    refine jx_topi ey2 ?_
    refine lv_istore_n (lv' := [(1, .int y2), (0, .ref (E.1 o))]) hx hb dX4_cells_27 rfl hl (Nat.le_of_ble_eq_true rfl) rfl (fun ls hl => ?_)
    exact jp_cells_h28_ok hX F o ho F _ h _ _ _ hP hS (lv_sub hl [1, 0] rfl)
  · rw [if_neg c1] at h
    refine lv_aload_n hx hb dX4_cells_13 rfl (lv_at hl 0 rfl) ?_
    refine jf_get hx hb hts in_X4 hown hV hP (ci := 3) (k := 9) (jf_oP ho) rfl (by decide) (hts _ q299) rfl rfl dX4_cells_14 ?_
    refine lv_iload_n hx hb dX4_cells_17 rfl (lv_at hl 1 rfl) ?_
    refine lv_lconst hx hb dX4_cells_18 jx_kl0 ?_
    obtain ⟨j3, ej3, bj3, h⟩ := jx_ga_some h
    obtain ⟨S4, eS4, h⟩ := jx_nx_some h
    refine jf_last hx hb hV hP hS (jf_aP9 ho) ej3 bj3 eS4 dX4_cells_19 (fun H locs hP hS => ?_)
    obtain ⟨y5, ey5, h⟩ := jx_nx_some h
    refine lv_iinc (v := y5) (lv' := [(1, .int y5), (0, .ref (E.1 o))]) hx hb dX4_cells_20 hl (k := 1) rfl (jx_inc jx_ki1 ey5) (Nat.le_of_ble_eq_true rfl) rfl (fun ls hl => ?_)
    refine lv_goto (tgt := 7) hx hb dX4_cells_23 rfl ?_
    exact hr7 _ h _ _ _ hP hS (lv_sub hl [1, 0] rfl)
theorem jp_cells_h7_ok {out : jf_S} (hX : jf_Ok RX4 p R s m args meth c A D E cX4_cells 3 none 2) (F : Nat) (o : Nat) (ho : o = 3 ∨ o = 4) (n : Nat) (a : Int32 × jf_S) (h : jp_cells_h7 F o n a = some out) : jf_J p l e R s m args below meth c A D E fo pl 3 (jf_Qv below args s A D E fo pl out) 7 [(0, .ref (E.1 o)), (1, .int a.1)] [] a.2 :=
  jx_loop_ind (J := fun a => jf_J p l e R s m args below meth c A D E fo pl 3 (jf_Qv below args s A D E fo pl out) 7 [(0, .ref (E.1 o)), (1, .int a.1)] [] a.2) (fun r hr a h => jp_cells_L7_ok hX F o ho hr a.1 a.2 h) n a h
theorem jp_cells_ok {out : jf_S} (hX : jf_Ok RX4 p R s m args meth c A D E cX4_cells 3 none 2) (F : Nat) (o : Nat) (ho : o = 3 ∨ o = 4)  (S : jf_S) (h : jp_cells F o  S = some out) : jf_J p l e R s m args below meth c A D E fo pl 3 (jf_Qv below args s A D E fo pl out) 0 [(0, .ref (E.1 o))] [] S := by
  intro H locs ls hP hS hl
  have hX0 := hX
  obtain ⟨hx, hb, hml, hown, hts, hlk, hr, hlv, hV, het⟩ := hX0
  unfold jp_cells at h
  refine lv_aload_n hx hb dX4_cells_0 rfl (lv_at hl 0 rfl) ?_
  refine lv_iconst hx hb dX4_cells_1 jx_ki0 ?_
  obtain ⟨S1, eS1, h⟩ := jx_nx_some h
  refine jf_put (S1 := S1) hx hb hts in_X4 tyX4_ok nmX4 hown hV hP hS (ci := 3) (k := 17) (by rw [eS1]; rfl) (jf_oP ho) (by rw [eS1]; exact (jf_sP17 ho) _) rfl (by decide) (hts _ q318) rfl rfl (tyX4_ok 17 (by decide)) ⟨rfl, rfl⟩ (Nat.le_of_ble_eq_true rfl) dX4_cells_2 (fun H locs hP hS => ?_)
  refine lv_iconst hx hb dX4_cells_5 jx_ki0 ?_
  obtain ⟨y2, ey2, h⟩ := jx_nx_some h
  refine jx_topi ey2 ?_
  refine lv_istore_n (lv' := [(1, .int y2), (0, .ref (E.1 o))]) hx hb dX4_cells_6 rfl hl (Nat.le_of_ble_eq_true rfl) rfl (fun ls hl => ?_)
  exact jp_cells_h7_ok hX F o ho F _ h _ _ _ hP hS (lv_sub hl [1, 0] rfl)
theorem jp_cells_met {l : Launch} {D : va_G} {E : jf_E} {A : Nat → Prop} {fo : Nat → Nat → Option Nat} {pl : va_W} {F : Nat} {o : Nat} (ho : o = 3 ∨ o = 4)  {S : jf_S} {out : jf_S} (h : jp_cells F o  S = some out) : jf_Mv l D E A fo pl yX4_cells cX4_cells 3 none 2 [.ref (E.1 o)] S out :=
  jf_Mv_of (own := RX4) ⟨by decide, rfl, Nat.le_of_ble_eq_true rfl⟩ (fun hX => jp_cells_ok hX F o ho  S h)
theorem jo8_puts_d : yX8_puts.cls = RX8 ∧ yX8_puts.cls ≠ "java/lang/invoke/MethodHandle" ∧ yX8_puts.cls ≠ "java/lang/invoke/VarHandle" ∧ (parseMethodDescriptor yX8_puts.desc).map (fun d => d.parameters.length) = some 0 := by decide +kernel
theorem jo8_puts_ok {out : Int32 × jf_S} (hX : jf_Ok RX8 p R s m args meth c A D E cX8_puts 1 (some .boolean) 0) (F : Nat) (x0 : jo_R) {x0a : Nat} (S : jf_S) (h : jo8_puts F x0 S = some out) : jf_J p l e R s m args below meth c A D E fo pl 1 (jf_Qi below args s A D E fo pl out) 0 [(0, .ref x0a)] [] S := by
  intro H locs ls hP hS hl
  have hX0 := hX
  obtain ⟨hx, hb, hml, hown, hts, hlk, hr, hlv, hV, het⟩ := hX0
  unfold jo8_puts at h
  refine lv_iconst hx hb dX8_puts_0 jx_ki0 ?_
  exact jf_zret hx hb hr hlk hV hP hS jx_nz0 h dX8_puts_1
theorem jo8_puts_met {l : Launch} {D : va_G} {E : jf_E} {A : Nat → Prop} {fo : Nat → Nat → Option Nat} {pl : va_W} {F : Nat} {x0 : jo_R} {x0a : Nat} {S : jf_S} {out : Int32 × jf_S} (h : jo8_puts F x0 S = some out) : jf_Mi l D E A fo pl yX8_puts cX8_puts 1 (some .boolean) 0 [.ref x0a] S out :=
  jf_Mi_of (own := RX8) ⟨by decide, rfl, Nat.le_of_ble_eq_true rfl⟩ (fun hX => jo8_puts_ok hX F x0 S h)
theorem jo14_puts_d : yX14_puts.cls = RX14 ∧ yX14_puts.cls ≠ "java/lang/invoke/MethodHandle" ∧ yX14_puts.cls ≠ "java/lang/invoke/VarHandle" ∧ (parseMethodDescriptor yX14_puts.desc).map (fun d => d.parameters.length) = some 0 := by decide +kernel
theorem jo14_puts_ok {out : Int32 × jf_S} (hX : jf_Ok RX14 p R s m args meth c A D E cX14_puts 1 (some .boolean) 0) (F : Nat) (x0 : jo_R) {x0a : Nat} (x0h : jo_m5 pl x0a x0) (S : jf_S) (h : jo14_puts F x0 S = some out) : jf_J p l e R s m args below meth c A D E fo pl 1 (jf_Qi below args s A D E fo pl out) 0 [(0, .ref x0a)] [] S := by
  intro H locs ls hP hS hl
  have hX0 := hX
  obtain ⟨hx, hb, hml, hown, hts, hlk, hr, hlv, hV, het⟩ := hX0
  unfold jo14_puts at h
  refine lv_iconst hx hb dX14_puts_0 jx_ki1 ?_
  exact jf_zret hx hb hr hlk hV hP hS jx_nz1 h dX14_puts_1
theorem jo14_puts_met {l : Launch} {D : va_G} {E : jf_E} {A : Nat → Prop} {fo : Nat → Nat → Option Nat} {pl : va_W} {F : Nat} {x0 : jo_R} {x0a : Nat} (x0h : jo_m5 pl x0a x0) {S : jf_S} {out : Int32 × jf_S} (h : jo14_puts F x0 S = some out) : jf_Mi l D E A fo pl yX14_puts cX14_puts 1 (some .boolean) 0 [.ref x0a] S out :=
  jf_Mi_of (own := RX14) ⟨by decide, rfl, Nat.le_of_ble_eq_true rfl⟩ (fun hX => jo14_puts_ok hX F x0 x0h S h)
theorem jo15_puts_d : yX15_puts.cls = RX15 ∧ yX15_puts.cls ≠ "java/lang/invoke/MethodHandle" ∧ yX15_puts.cls ≠ "java/lang/invoke/VarHandle" ∧ (parseMethodDescriptor yX15_puts.desc).map (fun d => d.parameters.length) = some 0 := by decide +kernel
theorem jo15_puts_ok {out : Int32 × jf_S} (hX : jf_Ok RX15 p R s m args meth c A D E cX15_puts 1 (some .boolean) 0) (F : Nat) (x0 : jo_R) {x0a : Nat} (x0h : jo_m6 pl x0a x0) (S : jf_S) (h : jo15_puts F x0 S = some out) : jf_J p l e R s m args below meth c A D E fo pl 1 (jf_Qi below args s A D E fo pl out) 0 [(0, .ref x0a)] [] S := by
  intro H locs ls hP hS hl
  have hX0 := hX
  obtain ⟨hx, hb, hml, hown, hts, hlk, hr, hlv, hV, het⟩ := hX0
  unfold jo15_puts at h
  refine lv_iconst hx hb dX15_puts_0 jx_ki1 ?_
  exact jf_zret hx hb hr hlk hV hP hS jx_nz1 h dX15_puts_1
theorem jo15_puts_met {l : Launch} {D : va_G} {E : jf_E} {A : Nat → Prop} {fo : Nat → Nat → Option Nat} {pl : va_W} {F : Nat} {x0 : jo_R} {x0a : Nat} (x0h : jo_m6 pl x0a x0) {S : jf_S} {out : Int32 × jf_S} (h : jo15_puts F x0 S = some out) : jf_Mi l D E A fo pl yX15_puts cX15_puts 1 (some .boolean) 0 [.ref x0a] S out :=
  jf_Mi_of (own := RX15) ⟨by decide, rfl, Nat.le_of_ble_eq_true rfl⟩ (fun hX => jo15_puts_ok hX F x0 x0h S h)
theorem jv_puts_X4 {F nL lv a : Nat} {r : jo_R}  {out : Int32 × jf_S} {stk : List Value} (hx : p.tables.exec = Jvm.exec) (hb : c.code = cc) (hml : c.maxLocals = nL) (hown : s.vm.findClass RX4 = some m.cls) (hts : ∀ w ∈ lw_all, w.before args s = true) (hlv : jx_hr R lv) (hV : jf_V D E A s) (hi : jo_Is pl a r) (e1 : jv_puts F r  S = some out) (h1 : 0 + 1 ≤ lv) (hP : jf_P D E A S fo pl H) (hS : va_S A s.heap H locs) (hls : ls.size = nL) (_ : (1 : Nat) = 1) (hst : stk = ([] : List Value).reverse ++ .ref a :: rest) (hW : 2 * (F0 m pc ls stk).monitorRoom + (rest.map fun v => v.category).sum ≤ 8) (hdg : decode cc pc = .ok (.invokevirtual 85, 3))
    (kk : ∀ (H : Heap) (locs : List Loc), jf_P D E A out.2 fo pl H → va_S A s.heap H locs → W p l e R s m args below meth c H locs 0 0 Q (F0 m (pc + 3) ls (.int out.1 :: rest))) : W p l e R s m args below meth c H locs 0 0 Q (F0 m pc ls stk) := by
  obtain ⟨hv1, hv2⟩ := hlv
  rcases hi with ⟨e0, h0⟩ | ⟨e0, h0⟩ | ⟨e0, h0⟩ | ⟨e0, h0⟩ | ⟨e0, h0⟩ | ⟨e0, h0⟩ | ⟨e0, h0⟩ | ⟨e0, h0⟩ | ⟨e0, h0⟩ | ⟨e0, h0⟩
  · rw [jv_puts, if_pos e0] at e1
    obtain ⟨q0, _, _, hq, -, -⟩ := jo_f0 (E := E) (S := S) (fo := fo) h0
    exact jf_vcallI hx hb hml hown hts hV (jo8_puts_met (x0a := a) e1) (va_cwO (x := ⟨"JumpFence$Order", "puts", "()Z"⟩) (owner := "JumpFence$Order") 0 hts (jf_lwO q756 q758 q757 q770 q757 q116 q773) rfl rfl rfl q773 (by decide +kernel) ⟨by show 0 + 1 ≤ R.frames; omega, by show 8 + (1 + 11) + 40 * 0 ≤ R.locals; omega⟩) hP hS (ci := 6) hq rfl hls rfl hst hW hdg kk
  · rw [jv_puts, if_neg (by rw [e0]; decide), if_pos e0] at e1
    obtain ⟨q0, hq⟩ := jf_pool (E := E) (S := S) (fo := fo) h0
    exact jf_vcallI hx hb hml hown hts hV (jo8_puts_met (x0a := a) e1) (va_cwO (x := ⟨"JumpFence$Order", "puts", "()Z"⟩) (owner := "JumpFence$Order") 0 hts (jf_lwO q756 q758 q757 q769 q757 q116 q773) rfl rfl rfl q773 (by decide +kernel) ⟨by show 0 + 1 ≤ R.frames; omega, by show 8 + (1 + 11) + 40 * 0 ≤ R.locals; omega⟩) hP hS (ci := 7) hq rfl hls rfl hst hW hdg kk
  · rw [jv_puts, if_neg (by rw [e0]; decide), if_neg (by rw [e0]; decide), if_pos e0] at e1
    obtain ⟨q0, hq⟩ := jf_pool (E := E) (S := S) (fo := fo) h0
    exact jf_vcallI hx hb hml hown hts hV (jo8_puts_met (x0a := a) e1) (va_cwO (x := ⟨"JumpFence$Order", "puts", "()Z"⟩) (owner := "JumpFence$Order") 0 hts (jf_lwO q756 q758 q757 q768 q757 q116 q773) rfl rfl rfl q773 (by decide +kernel) ⟨by show 0 + 1 ≤ R.frames; omega, by show 8 + (1 + 11) + 40 * 0 ≤ R.locals; omega⟩) hP hS (ci := 8) hq rfl hls rfl hst hW hdg kk
  · rw [jv_puts, if_neg (by rw [e0]; decide), if_neg (by rw [e0]; decide), if_neg (by rw [e0]; decide), if_pos e0] at e1
    obtain ⟨q0, _, _, hq, -, -⟩ := jo_f3 (E := E) (S := S) (fo := fo) h0
    exact jf_vcallI hx hb hml hown hts hV (jo8_puts_met (x0a := a) e1) (va_cwO (x := ⟨"JumpFence$Order", "puts", "()Z"⟩) (owner := "JumpFence$Order") 0 hts (jf_lwO q756 q758 q757 q767 q757 q116 q773) rfl rfl rfl q773 (by decide +kernel) ⟨by show 0 + 1 ≤ R.frames; omega, by show 8 + (1 + 11) + 40 * 0 ≤ R.locals; omega⟩) hP hS (ci := 9) hq rfl hls rfl hst hW hdg kk
  · rw [jv_puts, if_neg (by rw [e0]; decide), if_neg (by rw [e0]; decide), if_neg (by rw [e0]; decide), if_neg (by rw [e0]; decide), if_pos e0] at e1
    obtain ⟨q0, hq⟩ := jf_pool (E := E) (S := S) (fo := fo) h0
    exact jf_vcallI hx hb hml hown hts hV (jo8_puts_met (x0a := a) e1) (va_cwO (x := ⟨"JumpFence$Order", "puts", "()Z"⟩) (owner := "JumpFence$Order") 0 hts (jf_lwO q756 q758 q757 q772 q757 q116 q773) rfl rfl rfl q773 (by decide +kernel) ⟨by show 0 + 1 ≤ R.frames; omega, by show 8 + (1 + 11) + 40 * 0 ≤ R.locals; omega⟩) hP hS (ci := 10) hq rfl hls rfl hst hW hdg kk
  · rw [jv_puts, if_neg (by rw [e0]; decide), if_neg (by rw [e0]; decide), if_neg (by rw [e0]; decide), if_neg (by rw [e0]; decide), if_neg (by rw [e0]; decide), if_pos e0] at e1
    obtain ⟨q0, hq⟩ := jf_pool (E := E) (S := S) (fo := fo) h0
    exact jf_vcallI hx hb hml hown hts hV (jo14_puts_met h0 e1) (va_cwO (x := ⟨"JumpFence$Order", "puts", "()Z"⟩) (owner := "JumpFence$Order") 0 hts (jf_lwO q756 q758 q757 q763 q764 q122 q765) rfl rfl rfl q773 (by decide +kernel) ⟨by show 0 + 1 ≤ R.frames; omega, by show 8 + (1 + 11) + 40 * 0 ≤ R.locals; omega⟩) hP hS (ci := 11) hq rfl hls rfl hst hW hdg kk
  · rw [jv_puts, if_neg (by rw [e0]; decide), if_neg (by rw [e0]; decide), if_neg (by rw [e0]; decide), if_neg (by rw [e0]; decide), if_neg (by rw [e0]; decide), if_neg (by rw [e0]; decide), if_pos e0] at e1
    obtain ⟨q0, hq⟩ := jf_pool (E := E) (S := S) (fo := fo) h0
    exact jf_vcallI hx hb hml hown hts hV (jo15_puts_met h0 e1) (va_cwO (x := ⟨"JumpFence$Order", "puts", "()Z"⟩) (owner := "JumpFence$Order") 0 hts (jf_lwO q756 q758 q757 q760 q761 q123 q762) rfl rfl rfl q773 (by decide +kernel) ⟨by show 0 + 1 ≤ R.frames; omega, by show 8 + (1 + 11) + 40 * 0 ≤ R.locals; omega⟩) hP hS (ci := 12) hq rfl hls rfl hst hW hdg kk
  · rw [jv_puts, if_neg (by rw [e0]; decide), if_neg (by rw [e0]; decide), if_neg (by rw [e0]; decide), if_neg (by rw [e0]; decide), if_neg (by rw [e0]; decide), if_neg (by rw [e0]; decide), if_neg (by rw [e0]; decide), if_pos e0] at e1
    obtain ⟨q0, hq⟩ := jf_pool (E := E) (S := S) (fo := fo) h0
    exact jf_vcallI hx hb hml hown hts hV (jo8_puts_met (x0a := a) e1) (va_cwO (x := ⟨"JumpFence$Order", "puts", "()Z"⟩) (owner := "JumpFence$Order") 0 hts (jf_lwO q756 q758 q757 q759 q757 q116 q773) rfl rfl rfl q773 (by decide +kernel) ⟨by show 0 + 1 ≤ R.frames; omega, by show 8 + (1 + 11) + 40 * 0 ≤ R.locals; omega⟩) hP hS (ci := 13) hq rfl hls rfl hst hW hdg kk
  · rw [jv_puts, if_neg (by rw [e0]; decide), if_neg (by rw [e0]; decide), if_neg (by rw [e0]; decide), if_neg (by rw [e0]; decide), if_neg (by rw [e0]; decide), if_neg (by rw [e0]; decide), if_neg (by rw [e0]; decide), if_neg (by rw [e0]; decide), if_pos e0] at e1
    obtain ⟨q0, _, hq, -⟩ := jo_f8 (E := E) (S := S) (fo := fo) h0
    exact jf_vcallI hx hb hml hown hts hV (jo8_puts_met (x0a := a) e1) (va_cwO (x := ⟨"JumpFence$Order", "puts", "()Z"⟩) (owner := "JumpFence$Order") 0 hts (jf_lwO q756 q758 q757 q766 q757 q116 q773) rfl rfl rfl q773 (by decide +kernel) ⟨by show 0 + 1 ≤ R.frames; omega, by show 8 + (1 + 11) + 40 * 0 ≤ R.locals; omega⟩) hP hS (ci := 14) hq rfl hls rfl hst hW hdg kk
  · rw [jv_puts, if_neg (by rw [e0]; decide), if_neg (by rw [e0]; decide), if_neg (by rw [e0]; decide), if_neg (by rw [e0]; decide), if_neg (by rw [e0]; decide), if_neg (by rw [e0]; decide), if_neg (by rw [e0]; decide), if_neg (by rw [e0]; decide), if_neg (by rw [e0]; decide), if_pos e0] at e1
    obtain ⟨q0, hq⟩ := jf_pool (E := E) (S := S) (fo := fo) h0
    exact jf_vcallI hx hb hml hown hts hV (jo8_puts_met (x0a := a) e1) (va_cwO (x := ⟨"JumpFence$Order", "puts", "()Z"⟩) (owner := "JumpFence$Order") 0 hts (jf_lwO q756 q758 q757 q771 q757 q116 q773) rfl rfl rfl q773 (by decide +kernel) ⟨by show 0 + 1 ≤ R.frames; omega, by show 8 + (1 + 11) + 40 * 0 ≤ R.locals; omega⟩) hP hS (ci := 15) hq rfl hls rfl hst hW hdg kk
theorem jo8_kind_d : yX8_kind.cls = RX8 ∧ yX8_kind.cls ≠ "java/lang/invoke/MethodHandle" ∧ yX8_kind.cls ≠ "java/lang/invoke/VarHandle" ∧ (parseMethodDescriptor yX8_kind.desc).map (fun d => d.parameters.length) = some 0 := by decide +kernel
theorem jo8_kind_ok {out : Int32 × jf_S} (hX : jf_Ok RX8 p R s m args meth c A D E cX8_kind 1 (some .int) 0) (F : Nat) (x0 : jo_R) {x0a : Nat} (S : jf_S) (h : jo8_kind F x0 S = some out) : jf_J p l e R s m args below meth c A D E fo pl 1 (jf_Qi below args s A D E fo pl out) 0 [(0, .ref x0a)] [] S := by
  intro H locs ls hP hS hl
  have hX0 := hX
  obtain ⟨hx, hb, hml, hown, hts, hlk, hr, hlv, hV, het⟩ := hX0
  unfold jo8_kind at h
  refine lv_iconst hx hb dX8_kind_0 jx_ki0 ?_
  exact jf_iret hx hb hr hlk hV hP hS h dX8_kind_1
theorem jo8_kind_met {l : Launch} {D : va_G} {E : jf_E} {A : Nat → Prop} {fo : Nat → Nat → Option Nat} {pl : va_W} {F : Nat} {x0 : jo_R} {x0a : Nat} {S : jf_S} {out : Int32 × jf_S} (h : jo8_kind F x0 S = some out) : jf_Mi l D E A fo pl yX8_kind cX8_kind 1 (some .int) 0 [.ref x0a] S out :=
  jf_Mi_of (own := RX8) ⟨by decide, rfl, Nat.le_of_ble_eq_true rfl⟩ (fun hX => jo8_kind_ok hX F x0 S h)
theorem jo13_kind_d : yX13_kind.cls = RX13 ∧ yX13_kind.cls ≠ "java/lang/invoke/MethodHandle" ∧ yX13_kind.cls ≠ "java/lang/invoke/VarHandle" ∧ (parseMethodDescriptor yX13_kind.desc).map (fun d => d.parameters.length) = some 0 := by decide +kernel
theorem jo13_kind_ok {out : Int32 × jf_S} (hX : jf_Ok RX13 p R s m args meth c A D E cX13_kind 1 (some .int) 0) (F : Nat) (x0 : jo_R) {x0a : Nat} (x0h : jo_mT pl x0a x0) (S : jf_S) (h : jo13_kind F x0 S = some out) : jf_J p l e R s m args below meth c A D E fo pl 1 (jf_Qi below args s A D E fo pl out) 0 [(0, .ref x0a)] [] S := by
  intro H locs ls hP hS hl
  have hX0 := hX
  obtain ⟨hx, hb, hml, hown, hts, hlk, hr, hlv, hV, het⟩ := hX0
  unfold jo13_kind at h
  refine lv_aload_n hx hb dX13_kind_0 rfl (lv_at hl 0 rfl) ?_
  refine jf_getT (k := 2) hx hb hts hown hV hP x0h (by decide) (hts _ q1157) rfl rfl dX13_kind_1 ?_
  exact jf_iret hx hb hr hlk hV hP hS h dX13_kind_4
theorem jo13_kind_met {l : Launch} {D : va_G} {E : jf_E} {A : Nat → Prop} {fo : Nat → Nat → Option Nat} {pl : va_W} {F : Nat} {x0 : jo_R} {x0a : Nat} (x0h : jo_mT pl x0a x0) {S : jf_S} {out : Int32 × jf_S} (h : jo13_kind F x0 S = some out) : jf_Mi l D E A fo pl yX13_kind cX13_kind 1 (some .int) 0 [.ref x0a] S out :=
  jf_Mi_of (own := RX13) ⟨by decide, rfl, Nat.le_of_ble_eq_true rfl⟩ (fun hX => jo13_kind_ok hX F x0 x0h S h)
theorem jv_kind_X1 {F nL lv a : Nat} {r : jo_R}  {out : Int32 × jf_S} {stk : List Value} (hx : p.tables.exec = Jvm.exec) (hb : c.code = cc) (hml : c.maxLocals = nL) (hown : s.vm.findClass RX1 = some m.cls) (hts : ∀ w ∈ lw_all, w.before args s = true) (hlv : jx_hr R lv) (hV : jf_V D E A s) (hi : jo_Is pl a r) (e1 : jv_kind F r  S = some out) (h1 : 0 + 1 ≤ lv) (hP : jf_P D E A S fo pl H) (hS : va_S A s.heap H locs) (hls : ls.size = nL) (_ : (1 : Nat) = 1) (hst : stk = ([] : List Value).reverse ++ .ref a :: rest) (hW : 2 * (F0 m pc ls stk).monitorRoom + (rest.map fun v => v.category).sum ≤ 8) (hdg : decode cc pc = .ok (.invokevirtual 141, 3))
    (kk : ∀ (H : Heap) (locs : List Loc), jf_P D E A out.2 fo pl H → va_S A s.heap H locs → W p l e R s m args below meth c H locs 0 0 Q (F0 m (pc + 3) ls (.int out.1 :: rest))) : W p l e R s m args below meth c H locs 0 0 Q (F0 m pc ls stk) := by
  obtain ⟨hv1, hv2⟩ := hlv
  rcases hi with ⟨e0, h0⟩ | ⟨e0, h0⟩ | ⟨e0, h0⟩ | ⟨e0, h0⟩ | ⟨e0, h0⟩ | ⟨e0, h0⟩ | ⟨e0, h0⟩ | ⟨e0, h0⟩ | ⟨e0, h0⟩ | ⟨e0, h0⟩
  · rw [jv_kind, if_pos e0] at e1
    obtain ⟨q0, _, _, hq, -, -⟩ := jo_f0 (E := E) (S := S) (fo := fo) h0
    exact jf_vcallI hx hb hml hown hts hV (jo8_kind_met (x0a := a) e1) (va_cwO (x := ⟨"JumpFence$Order", "kind", "()I"⟩) (owner := "JumpFence$Order") 0 hts (jf_lwO q1296 q776 q775 q786 q775 q116 q789) rfl rfl rfl q789 (by decide +kernel) ⟨by show 0 + 1 ≤ R.frames; omega, by show 8 + (1 + 11) + 40 * 0 ≤ R.locals; omega⟩) hP hS (ci := 6) hq rfl hls rfl hst hW hdg kk
  · rw [jv_kind, if_neg (by rw [e0]; decide), if_pos e0] at e1
    obtain ⟨q0, hq⟩ := jf_pool (E := E) (S := S) (fo := fo) h0
    exact jf_vcallI hx hb hml hown hts hV (jo8_kind_met (x0a := a) e1) (va_cwO (x := ⟨"JumpFence$Order", "kind", "()I"⟩) (owner := "JumpFence$Order") 0 hts (jf_lwO q1296 q776 q775 q785 q775 q116 q789) rfl rfl rfl q789 (by decide +kernel) ⟨by show 0 + 1 ≤ R.frames; omega, by show 8 + (1 + 11) + 40 * 0 ≤ R.locals; omega⟩) hP hS (ci := 7) hq rfl hls rfl hst hW hdg kk
  · rw [jv_kind, if_neg (by rw [e0]; decide), if_neg (by rw [e0]; decide), if_pos e0] at e1
    obtain ⟨q0, hq⟩ := jf_pool (E := E) (S := S) (fo := fo) h0
    exact jf_vcallI hx hb hml hown hts hV (jo8_kind_met (x0a := a) e1) (va_cwO (x := ⟨"JumpFence$Order", "kind", "()I"⟩) (owner := "JumpFence$Order") 0 hts (jf_lwO q1296 q776 q775 q784 q775 q116 q789) rfl rfl rfl q789 (by decide +kernel) ⟨by show 0 + 1 ≤ R.frames; omega, by show 8 + (1 + 11) + 40 * 0 ≤ R.locals; omega⟩) hP hS (ci := 8) hq rfl hls rfl hst hW hdg kk
  · rw [jv_kind, if_neg (by rw [e0]; decide), if_neg (by rw [e0]; decide), if_neg (by rw [e0]; decide), if_pos e0] at e1
    obtain ⟨q0, _, _, hq, -, -⟩ := jo_f3 (E := E) (S := S) (fo := fo) h0
    exact jf_vcallI hx hb hml hown hts hV (jo8_kind_met (x0a := a) e1) (va_cwO (x := ⟨"JumpFence$Order", "kind", "()I"⟩) (owner := "JumpFence$Order") 0 hts (jf_lwO q1296 q776 q775 q783 q775 q116 q789) rfl rfl rfl q789 (by decide +kernel) ⟨by show 0 + 1 ≤ R.frames; omega, by show 8 + (1 + 11) + 40 * 0 ≤ R.locals; omega⟩) hP hS (ci := 9) hq rfl hls rfl hst hW hdg kk
  · rw [jv_kind, if_neg (by rw [e0]; decide), if_neg (by rw [e0]; decide), if_neg (by rw [e0]; decide), if_neg (by rw [e0]; decide), if_pos e0] at e1
    obtain ⟨q0, hq⟩ := jf_pool (E := E) (S := S) (fo := fo) h0
    exact jf_vcallI hx hb hml hown hts hV (jo13_kind_met (Or.inl h0) e1) (va_cwO (x := ⟨"JumpFence$Order", "kind", "()I"⟩) (owner := "JumpFence$Order") 0 hts (jf_lwO q1296 q776 q775 q788 q779 q121 q780) rfl rfl rfl q789 (by decide +kernel) ⟨by show 0 + 1 ≤ R.frames; omega, by show 8 + (1 + 11) + 40 * 0 ≤ R.locals; omega⟩) hP hS (ci := 10) hq rfl hls rfl hst hW hdg kk
  · rw [jv_kind, if_neg (by rw [e0]; decide), if_neg (by rw [e0]; decide), if_neg (by rw [e0]; decide), if_neg (by rw [e0]; decide), if_neg (by rw [e0]; decide), if_pos e0] at e1
    obtain ⟨q0, hq⟩ := jf_pool (E := E) (S := S) (fo := fo) h0
    exact jf_vcallI hx hb hml hown hts hV (jo8_kind_met (x0a := a) e1) (va_cwO (x := ⟨"JumpFence$Order", "kind", "()I"⟩) (owner := "JumpFence$Order") 0 hts (jf_lwO q1296 q776 q775 q781 q775 q116 q789) rfl rfl rfl q789 (by decide +kernel) ⟨by show 0 + 1 ≤ R.frames; omega, by show 8 + (1 + 11) + 40 * 0 ≤ R.locals; omega⟩) hP hS (ci := 11) hq rfl hls rfl hst hW hdg kk
  · rw [jv_kind, if_neg (by rw [e0]; decide), if_neg (by rw [e0]; decide), if_neg (by rw [e0]; decide), if_neg (by rw [e0]; decide), if_neg (by rw [e0]; decide), if_neg (by rw [e0]; decide), if_pos e0] at e1
    obtain ⟨q0, hq⟩ := jf_pool (E := E) (S := S) (fo := fo) h0
    exact jf_vcallI hx hb hml hown hts hV (jo13_kind_met (Or.inr h0) e1) (va_cwO (x := ⟨"JumpFence$Order", "kind", "()I"⟩) (owner := "JumpFence$Order") 0 hts (jf_lwO q1296 q776 q775 q778 q779 q121 q780) rfl rfl rfl q789 (by decide +kernel) ⟨by show 0 + 1 ≤ R.frames; omega, by show 8 + (1 + 11) + 40 * 0 ≤ R.locals; omega⟩) hP hS (ci := 12) hq rfl hls rfl hst hW hdg kk
  · rw [jv_kind, if_neg (by rw [e0]; decide), if_neg (by rw [e0]; decide), if_neg (by rw [e0]; decide), if_neg (by rw [e0]; decide), if_neg (by rw [e0]; decide), if_neg (by rw [e0]; decide), if_neg (by rw [e0]; decide), if_pos e0] at e1
    obtain ⟨q0, hq⟩ := jf_pool (E := E) (S := S) (fo := fo) h0
    exact jf_vcallI hx hb hml hown hts hV (jo8_kind_met (x0a := a) e1) (va_cwO (x := ⟨"JumpFence$Order", "kind", "()I"⟩) (owner := "JumpFence$Order") 0 hts (jf_lwO q1296 q776 q775 q777 q775 q116 q789) rfl rfl rfl q789 (by decide +kernel) ⟨by show 0 + 1 ≤ R.frames; omega, by show 8 + (1 + 11) + 40 * 0 ≤ R.locals; omega⟩) hP hS (ci := 13) hq rfl hls rfl hst hW hdg kk
  · rw [jv_kind, if_neg (by rw [e0]; decide), if_neg (by rw [e0]; decide), if_neg (by rw [e0]; decide), if_neg (by rw [e0]; decide), if_neg (by rw [e0]; decide), if_neg (by rw [e0]; decide), if_neg (by rw [e0]; decide), if_neg (by rw [e0]; decide), if_pos e0] at e1
    obtain ⟨q0, _, hq, -⟩ := jo_f8 (E := E) (S := S) (fo := fo) h0
    exact jf_vcallI hx hb hml hown hts hV (jo8_kind_met (x0a := a) e1) (va_cwO (x := ⟨"JumpFence$Order", "kind", "()I"⟩) (owner := "JumpFence$Order") 0 hts (jf_lwO q1296 q776 q775 q782 q775 q116 q789) rfl rfl rfl q789 (by decide +kernel) ⟨by show 0 + 1 ≤ R.frames; omega, by show 8 + (1 + 11) + 40 * 0 ≤ R.locals; omega⟩) hP hS (ci := 14) hq rfl hls rfl hst hW hdg kk
  · rw [jv_kind, if_neg (by rw [e0]; decide), if_neg (by rw [e0]; decide), if_neg (by rw [e0]; decide), if_neg (by rw [e0]; decide), if_neg (by rw [e0]; decide), if_neg (by rw [e0]; decide), if_neg (by rw [e0]; decide), if_neg (by rw [e0]; decide), if_neg (by rw [e0]; decide), if_pos e0] at e1
    obtain ⟨q0, hq⟩ := jf_pool (E := E) (S := S) (fo := fo) h0
    exact jf_vcallI hx hb hml hown hts hV (jo8_kind_met (x0a := a) e1) (va_cwO (x := ⟨"JumpFence$Order", "kind", "()I"⟩) (owner := "JumpFence$Order") 0 hts (jf_lwO q1296 q776 q775 q787 q775 q116 q789) rfl rfl rfl q789 (by decide +kernel) ⟨by show 0 + 1 ≤ R.frames; omega, by show 8 + (1 + 11) + 40 * 0 ≤ R.locals; omega⟩) hP hS (ci := 15) hq rfl hls rfl hst hW hdg kk
theorem jv_kind_X4 {F nL lv a : Nat} {r : jo_R}  {out : Int32 × jf_S} {stk : List Value} (hx : p.tables.exec = Jvm.exec) (hb : c.code = cc) (hml : c.maxLocals = nL) (hown : s.vm.findClass RX4 = some m.cls) (hts : ∀ w ∈ lw_all, w.before args s = true) (hlv : jx_hr R lv) (hV : jf_V D E A s) (hi : jo_Is pl a r) (e1 : jv_kind F r  S = some out) (h1 : 0 + 1 ≤ lv) (hP : jf_P D E A S fo pl H) (hS : va_S A s.heap H locs) (hls : ls.size = nL) (_ : (1 : Nat) = 1) (hst : stk = ([] : List Value).reverse ++ .ref a :: rest) (hW : 2 * (F0 m pc ls stk).monitorRoom + (rest.map fun v => v.category).sum ≤ 8) (hdg : decode cc pc = .ok (.invokevirtual 104, 3))
    (kk : ∀ (H : Heap) (locs : List Loc), jf_P D E A out.2 fo pl H → va_S A s.heap H locs → W p l e R s m args below meth c H locs 0 0 Q (F0 m (pc + 3) ls (.int out.1 :: rest))) : W p l e R s m args below meth c H locs 0 0 Q (F0 m pc ls stk) := by
  obtain ⟨hv1, hv2⟩ := hlv
  rcases hi with ⟨e0, h0⟩ | ⟨e0, h0⟩ | ⟨e0, h0⟩ | ⟨e0, h0⟩ | ⟨e0, h0⟩ | ⟨e0, h0⟩ | ⟨e0, h0⟩ | ⟨e0, h0⟩ | ⟨e0, h0⟩ | ⟨e0, h0⟩
  · rw [jv_kind, if_pos e0] at e1
    obtain ⟨q0, _, _, hq, -, -⟩ := jo_f0 (E := E) (S := S) (fo := fo) h0
    exact jf_vcallI hx hb hml hown hts hV (jo8_kind_met (x0a := a) e1) (va_cwO (x := ⟨"JumpFence$Order", "kind", "()I"⟩) (owner := "JumpFence$Order") 0 hts (jf_lwO q774 q776 q775 q786 q775 q116 q789) rfl rfl rfl q789 (by decide +kernel) ⟨by show 0 + 1 ≤ R.frames; omega, by show 8 + (1 + 11) + 40 * 0 ≤ R.locals; omega⟩) hP hS (ci := 6) hq rfl hls rfl hst hW hdg kk
  · rw [jv_kind, if_neg (by rw [e0]; decide), if_pos e0] at e1
    obtain ⟨q0, hq⟩ := jf_pool (E := E) (S := S) (fo := fo) h0
    exact jf_vcallI hx hb hml hown hts hV (jo8_kind_met (x0a := a) e1) (va_cwO (x := ⟨"JumpFence$Order", "kind", "()I"⟩) (owner := "JumpFence$Order") 0 hts (jf_lwO q774 q776 q775 q785 q775 q116 q789) rfl rfl rfl q789 (by decide +kernel) ⟨by show 0 + 1 ≤ R.frames; omega, by show 8 + (1 + 11) + 40 * 0 ≤ R.locals; omega⟩) hP hS (ci := 7) hq rfl hls rfl hst hW hdg kk
  · rw [jv_kind, if_neg (by rw [e0]; decide), if_neg (by rw [e0]; decide), if_pos e0] at e1
    obtain ⟨q0, hq⟩ := jf_pool (E := E) (S := S) (fo := fo) h0
    exact jf_vcallI hx hb hml hown hts hV (jo8_kind_met (x0a := a) e1) (va_cwO (x := ⟨"JumpFence$Order", "kind", "()I"⟩) (owner := "JumpFence$Order") 0 hts (jf_lwO q774 q776 q775 q784 q775 q116 q789) rfl rfl rfl q789 (by decide +kernel) ⟨by show 0 + 1 ≤ R.frames; omega, by show 8 + (1 + 11) + 40 * 0 ≤ R.locals; omega⟩) hP hS (ci := 8) hq rfl hls rfl hst hW hdg kk
  · rw [jv_kind, if_neg (by rw [e0]; decide), if_neg (by rw [e0]; decide), if_neg (by rw [e0]; decide), if_pos e0] at e1
    obtain ⟨q0, _, _, hq, -, -⟩ := jo_f3 (E := E) (S := S) (fo := fo) h0
    exact jf_vcallI hx hb hml hown hts hV (jo8_kind_met (x0a := a) e1) (va_cwO (x := ⟨"JumpFence$Order", "kind", "()I"⟩) (owner := "JumpFence$Order") 0 hts (jf_lwO q774 q776 q775 q783 q775 q116 q789) rfl rfl rfl q789 (by decide +kernel) ⟨by show 0 + 1 ≤ R.frames; omega, by show 8 + (1 + 11) + 40 * 0 ≤ R.locals; omega⟩) hP hS (ci := 9) hq rfl hls rfl hst hW hdg kk
  · rw [jv_kind, if_neg (by rw [e0]; decide), if_neg (by rw [e0]; decide), if_neg (by rw [e0]; decide), if_neg (by rw [e0]; decide), if_pos e0] at e1
    obtain ⟨q0, hq⟩ := jf_pool (E := E) (S := S) (fo := fo) h0
    exact jf_vcallI hx hb hml hown hts hV (jo13_kind_met (Or.inl h0) e1) (va_cwO (x := ⟨"JumpFence$Order", "kind", "()I"⟩) (owner := "JumpFence$Order") 0 hts (jf_lwO q774 q776 q775 q788 q779 q121 q780) rfl rfl rfl q789 (by decide +kernel) ⟨by show 0 + 1 ≤ R.frames; omega, by show 8 + (1 + 11) + 40 * 0 ≤ R.locals; omega⟩) hP hS (ci := 10) hq rfl hls rfl hst hW hdg kk
  · rw [jv_kind, if_neg (by rw [e0]; decide), if_neg (by rw [e0]; decide), if_neg (by rw [e0]; decide), if_neg (by rw [e0]; decide), if_neg (by rw [e0]; decide), if_pos e0] at e1
    obtain ⟨q0, hq⟩ := jf_pool (E := E) (S := S) (fo := fo) h0
    exact jf_vcallI hx hb hml hown hts hV (jo8_kind_met (x0a := a) e1) (va_cwO (x := ⟨"JumpFence$Order", "kind", "()I"⟩) (owner := "JumpFence$Order") 0 hts (jf_lwO q774 q776 q775 q781 q775 q116 q789) rfl rfl rfl q789 (by decide +kernel) ⟨by show 0 + 1 ≤ R.frames; omega, by show 8 + (1 + 11) + 40 * 0 ≤ R.locals; omega⟩) hP hS (ci := 11) hq rfl hls rfl hst hW hdg kk
  · rw [jv_kind, if_neg (by rw [e0]; decide), if_neg (by rw [e0]; decide), if_neg (by rw [e0]; decide), if_neg (by rw [e0]; decide), if_neg (by rw [e0]; decide), if_neg (by rw [e0]; decide), if_pos e0] at e1
    obtain ⟨q0, hq⟩ := jf_pool (E := E) (S := S) (fo := fo) h0
    exact jf_vcallI hx hb hml hown hts hV (jo13_kind_met (Or.inr h0) e1) (va_cwO (x := ⟨"JumpFence$Order", "kind", "()I"⟩) (owner := "JumpFence$Order") 0 hts (jf_lwO q774 q776 q775 q778 q779 q121 q780) rfl rfl rfl q789 (by decide +kernel) ⟨by show 0 + 1 ≤ R.frames; omega, by show 8 + (1 + 11) + 40 * 0 ≤ R.locals; omega⟩) hP hS (ci := 12) hq rfl hls rfl hst hW hdg kk
  · rw [jv_kind, if_neg (by rw [e0]; decide), if_neg (by rw [e0]; decide), if_neg (by rw [e0]; decide), if_neg (by rw [e0]; decide), if_neg (by rw [e0]; decide), if_neg (by rw [e0]; decide), if_neg (by rw [e0]; decide), if_pos e0] at e1
    obtain ⟨q0, hq⟩ := jf_pool (E := E) (S := S) (fo := fo) h0
    exact jf_vcallI hx hb hml hown hts hV (jo8_kind_met (x0a := a) e1) (va_cwO (x := ⟨"JumpFence$Order", "kind", "()I"⟩) (owner := "JumpFence$Order") 0 hts (jf_lwO q774 q776 q775 q777 q775 q116 q789) rfl rfl rfl q789 (by decide +kernel) ⟨by show 0 + 1 ≤ R.frames; omega, by show 8 + (1 + 11) + 40 * 0 ≤ R.locals; omega⟩) hP hS (ci := 13) hq rfl hls rfl hst hW hdg kk
  · rw [jv_kind, if_neg (by rw [e0]; decide), if_neg (by rw [e0]; decide), if_neg (by rw [e0]; decide), if_neg (by rw [e0]; decide), if_neg (by rw [e0]; decide), if_neg (by rw [e0]; decide), if_neg (by rw [e0]; decide), if_neg (by rw [e0]; decide), if_pos e0] at e1
    obtain ⟨q0, _, hq, -⟩ := jo_f8 (E := E) (S := S) (fo := fo) h0
    exact jf_vcallI hx hb hml hown hts hV (jo8_kind_met (x0a := a) e1) (va_cwO (x := ⟨"JumpFence$Order", "kind", "()I"⟩) (owner := "JumpFence$Order") 0 hts (jf_lwO q774 q776 q775 q782 q775 q116 q789) rfl rfl rfl q789 (by decide +kernel) ⟨by show 0 + 1 ≤ R.frames; omega, by show 8 + (1 + 11) + 40 * 0 ≤ R.locals; omega⟩) hP hS (ci := 14) hq rfl hls rfl hst hW hdg kk
  · rw [jv_kind, if_neg (by rw [e0]; decide), if_neg (by rw [e0]; decide), if_neg (by rw [e0]; decide), if_neg (by rw [e0]; decide), if_neg (by rw [e0]; decide), if_neg (by rw [e0]; decide), if_neg (by rw [e0]; decide), if_neg (by rw [e0]; decide), if_neg (by rw [e0]; decide), if_pos e0] at e1
    obtain ⟨q0, hq⟩ := jf_pool (E := E) (S := S) (fo := fo) h0
    exact jf_vcallI hx hb hml hown hts hV (jo8_kind_met (x0a := a) e1) (va_cwO (x := ⟨"JumpFence$Order", "kind", "()I"⟩) (owner := "JumpFence$Order") 0 hts (jf_lwO q774 q776 q775 q787 q775 q116 q789) rfl rfl rfl q789 (by decide +kernel) ⟨by show 0 + 1 ≤ R.frames; omega, by show 8 + (1 + 11) + 40 * 0 ≤ R.locals; omega⟩) hP hS (ci := 15) hq rfl hls rfl hst hW hdg kk
theorem jo8_within_d : yX8_within.cls = RX8 ∧ yX8_within.cls ≠ "java/lang/invoke/MethodHandle" ∧ yX8_within.cls ≠ "java/lang/invoke/VarHandle" ∧ (parseMethodDescriptor yX8_within.desc).map (fun d => d.parameters.length) = some 2 := by decide +kernel
theorem jo8_within_ok {out : Int64 × jf_S} (hX : jf_Ok RX8 p R s m args meth c A D E cX8_within 3 (some .long) 1) (F : Nat) (o : Nat) (ho : o = 3 ∨ o = 4) (x0 : jo_R) {x0a : Nat} (x2 : Int32) (S : jf_S) (h : jo8_within F o x0 x2 S = some out) : jf_J p l e R s m args below meth c A D E fo pl 3 (jf_Ql below args s A D E fo pl out) 0 [(0, .ref x0a), (1, .ref (E.1 o)), (2, .int x2)] [] S := by
  intro H locs ls hP hS hl
  have hX0 := hX
  obtain ⟨hx, hb, hml, hown, hts, hlk, hr, hlv, hV, het⟩ := hX0
  unfold jo8_within at h
  refine lv_iload_n hx hb dX8_within_0 rfl (lv_at hl 2 rfl) ?_
  refine lv_iconst hx hb dX8_within_1 jx_ki1 ?_
  refine lv_iadd hx hb dX8_within_2 ?_
  obtain ⟨q1, eq1, h⟩ := jx_bi_some h
  refine jx_callSNl hx hb hml hown hts (jf_nm_X8_15 hV.2.2.1) (jf_bit_met eq1) jf_bit_c jf_bit_s jf_bit_i jf_bit_d (As := [.int (x2 + (nI 1))]) (⟨Nat.le_trans (Nat.le_of_ble_eq_true rfl) hlv.1, Nat.le_trans (Nat.le_of_ble_eq_true rfl) hlv.2⟩) hl.1 rfl rfl (lv_room (Nat.le_of_ble_eq_true rfl)) dX8_within_3 ⟨Nat.zero_le _, Nat.zero_le _⟩ ?_
  exact jf_lret hx hb hr hlk hV hP hS h dX8_within_6
theorem jo8_within_met {l : Launch} {D : va_G} {E : jf_E} {A : Nat → Prop} {fo : Nat → Nat → Option Nat} {pl : va_W} {F : Nat} {o : Nat} (ho : o = 3 ∨ o = 4) {x0 : jo_R} {x0a : Nat} {x2 : Int32} {S : jf_S} {out : Int64 × jf_S} (h : jo8_within F o x0 x2 S = some out) : jf_Ml l D E A fo pl yX8_within cX8_within 3 (some .long) 1 [.ref x0a, .ref (E.1 o), .int x2] S out :=
  jf_Ml_of (own := RX8) ⟨by decide, rfl, Nat.le_of_ble_eq_true rfl⟩ (fun hX => jo8_within_ok hX F o ho x0 x2 S h)
theorem jo11_within_d : yX11_within.cls = RX11 ∧ yX11_within.cls ≠ "java/lang/invoke/MethodHandle" ∧ yX11_within.cls ≠ "java/lang/invoke/VarHandle" ∧ (parseMethodDescriptor yX11_within.desc).map (fun d => d.parameters.length) = some 2 := by decide +kernel
theorem jo11_within_ok {out : Int64 × jf_S} (hX : jf_Ok RX11 p R s m args meth c A D E cX11_within 3 (some .long) 1) (F : Nat) (o : Nat) (ho : o = 3 ∨ o = 4) (x0 : jo_R) {x0a : Nat} (x0h : jo_m2 pl x0a x0) (x2 : Int32) (S : jf_S) (h : jo11_within F o x0 x2 S = some out) : jf_J p l e R s m args below meth c A D E fo pl 3 (jf_Ql below args s A D E fo pl out) 0 [(0, .ref x0a), (1, .ref (E.1 o)), (2, .int x2)] [] S := by
  intro H locs ls hP hS hl
  have hX0 := hX
  obtain ⟨hx, hb, hml, hown, hts, hlk, hr, hlv, hV, het⟩ := hX0
  unfold jo11_within at h
  refine lv_aload_n hx hb dX11_within_0 rfl (lv_at hl 0 rfl) ?_
  obtain ⟨q1, hq1⟩ := jf_pool (E := E) (S := S) (fo := fo) x0h
  refine jf_get hx hb hts in_X11 hown hV hP (ci := 8) (k := 1) hq1 rfl (by decide) (hts _ q1112) rfl rfl dX11_within_1 ?_
  obtain ⟨q2, eq2, h⟩ := jx_bi_some h
  refine jx_callSNl hx hb hml hown hts (jf_nm_X11_15 hV.2.2.1) (jf_bit_met eq2) jf_bit_c jf_bit_s jf_bit_i jf_bit_d (As := [.int (x0 4)]) (⟨Nat.le_trans (Nat.le_of_ble_eq_true rfl) hlv.1, Nat.le_trans (Nat.le_of_ble_eq_true rfl) hlv.2⟩) hl.1 rfl rfl (lv_room (Nat.le_of_ble_eq_true rfl)) dX11_within_4 ⟨Nat.zero_le _, Nat.zero_le _⟩ ?_
  exact jf_lret hx hb hr hlk hV hP hS h dX11_within_7
theorem jo11_within_met {l : Launch} {D : va_G} {E : jf_E} {A : Nat → Prop} {fo : Nat → Nat → Option Nat} {pl : va_W} {F : Nat} {o : Nat} (ho : o = 3 ∨ o = 4) {x0 : jo_R} {x0a : Nat} (x0h : jo_m2 pl x0a x0) {x2 : Int32} {S : jf_S} {out : Int64 × jf_S} (h : jo11_within F o x0 x2 S = some out) : jf_Ml l D E A fo pl yX11_within cX11_within 3 (some .long) 1 [.ref x0a, .ref (E.1 o), .int x2] S out :=
  jf_Ml_of (own := RX11) ⟨by decide, rfl, Nat.le_of_ble_eq_true rfl⟩ (fun hX => jo11_within_ok hX F o ho x0 x0h x2 S h)
theorem jo12_within_d : yX12_within.cls = RX12 ∧ yX12_within.cls ≠ "java/lang/invoke/MethodHandle" ∧ yX12_within.cls ≠ "java/lang/invoke/VarHandle" ∧ (parseMethodDescriptor yX12_within.desc).map (fun d => d.parameters.length) = some 2 := by decide +kernel
theorem jo12_within_ok {out : Int64 × jf_S} (hX : jf_Ok RX12 p R s m args meth c A D E cX12_within 3 (some .long) 1) (F : Nat) (o : Nat) (ho : o = 3 ∨ o = 4) (x0 : jo_R) {x0a : Nat} (x0h : jo_m3 pl x0a x0) (x2 : Int32) (S : jf_S) (h : jo12_within F o x0 x2 S = some out) : jf_J p l e R s m args below meth c A D E fo pl 3 (jf_Ql below args s A D E fo pl out) 0 [(0, .ref x0a), (1, .ref (E.1 o)), (2, .int x2)] [] S := by
  intro H locs ls hP hS hl
  have hX0 := hX
  obtain ⟨hx, hb, hml, hown, hts, hlk, hr, hlv, hV, het⟩ := hX0
  unfold jo12_within at h
  refine lv_aload_n hx hb dX12_within_0 rfl (lv_at hl 0 rfl) ?_
  obtain ⟨q1, bq1, dq1, hq1, aq1, cq1⟩ := jo_f3 (E := E) (S := S) (fo := fo) x0h
  refine jf_get hx hb hts in_X12 hown hV hP (ci := 9) (k := 4) hq1 rfl (by decide) (hts _ q1133) rfl rfl dX12_within_1 ?_
  obtain ⟨q2, eq2, h⟩ := jx_bi_some h
  refine jx_callSNl hx hb hml hown hts (jf_nm_X12_25 hV.2.2.1) (jf_bit_met eq2) jf_bit_c jf_bit_s jf_bit_i jf_bit_d (As := [.int (x0 4)]) (⟨Nat.le_trans (Nat.le_of_ble_eq_true rfl) hlv.1, Nat.le_trans (Nat.le_of_ble_eq_true rfl) hlv.2⟩) hl.1 rfl rfl (lv_room (Nat.le_of_ble_eq_true rfl)) dX12_within_4 ⟨Nat.zero_le _, Nat.zero_le _⟩ ?_
  refine lv_iload_n hx hb dX12_within_7 rfl (lv_at hl 2 rfl) ?_
  refine lv_iconst hx hb dX12_within_8 jx_ki1 ?_
  refine lv_iadd hx hb dX12_within_9 ?_
  obtain ⟨q3, eq3, h⟩ := jx_bi_some h
  refine jx_callSNl hx hb hml hown hts (jf_nm_X12_25 hV.2.2.1) (jf_bit_met eq3) jf_bit_c jf_bit_s jf_bit_i jf_bit_d (As := [.int (x2 + (nI 1))]) (⟨Nat.le_trans (Nat.le_of_ble_eq_true rfl) hlv.1, Nat.le_trans (Nat.le_of_ble_eq_true rfl) hlv.2⟩) hl.1 rfl rfl (lv_room (Nat.le_of_ble_eq_true rfl)) dX12_within_10 ⟨Nat.zero_le _, Nat.zero_le _⟩ ?_
  refine lv_lor hx hb dX12_within_13 ?_
  exact jf_lret hx hb hr hlk hV hP hS h dX12_within_14
theorem jo12_within_met {l : Launch} {D : va_G} {E : jf_E} {A : Nat → Prop} {fo : Nat → Nat → Option Nat} {pl : va_W} {F : Nat} {o : Nat} (ho : o = 3 ∨ o = 4) {x0 : jo_R} {x0a : Nat} (x0h : jo_m3 pl x0a x0) {x2 : Int32} {S : jf_S} {out : Int64 × jf_S} (h : jo12_within F o x0 x2 S = some out) : jf_Ml l D E A fo pl yX12_within cX12_within 3 (some .long) 1 [.ref x0a, .ref (E.1 o), .int x2] S out :=
  jf_Ml_of (own := RX12) ⟨by decide, rfl, Nat.le_of_ble_eq_true rfl⟩ (fun hX => jo12_within_ok hX F o ho x0 x0h x2 S h)
theorem jo13_within_d : yX13_within.cls = RX13 ∧ yX13_within.cls ≠ "java/lang/invoke/MethodHandle" ∧ yX13_within.cls ≠ "java/lang/invoke/VarHandle" ∧ (parseMethodDescriptor yX13_within.desc).map (fun d => d.parameters.length) = some 2 := by decide +kernel
theorem jo13_within_ok {out : Int64 × jf_S} (hX : jf_Ok RX13 p R s m args meth c A D E cX13_within 3 (some .long) 0) (F : Nat) (o : Nat) (ho : o = 3 ∨ o = 4) (x0 : jo_R) {x0a : Nat} (x0h : jo_mT pl x0a x0) (x2 : Int32) (S : jf_S) (h : jo13_within F o x0 x2 S = some out) : jf_J p l e R s m args below meth c A D E fo pl 3 (jf_Ql below args s A D E fo pl out) 0 [(0, .ref x0a), (1, .ref (E.1 o)), (2, .int x2)] [] S := by
  intro H locs ls hP hS hl
  have hX0 := hX
  obtain ⟨hx, hb, hml, hown, hts, hlk, hr, hlv, hV, het⟩ := hX0
  unfold jo13_within at h
  refine lv_aload_n hx hb dX13_within_0 rfl (lv_at hl 1 rfl) ?_
  refine jf_getN hx hb hts in_X4 hown hV hP (ci := 3) (k := 11) (jf_oP ho) rfl (by decide) (jf_l_X13_18 hV.2.2.1) rfl rfl dX13_within_1 ?_
  refine lv_iload_n hx hb dX13_within_4 rfl (lv_at hl 2 rfl) ?_
  obtain ⟨j1, ej1, bj1, h⟩ := jx_ga_some h
  refine jf_lald hx hb hV hP (jf_aP11 ho) ej1 bj1 dX13_within_5 ?_
  exact jf_lret hx hb hr hlk hV hP hS h dX13_within_6
theorem jo13_within_met {l : Launch} {D : va_G} {E : jf_E} {A : Nat → Prop} {fo : Nat → Nat → Option Nat} {pl : va_W} {F : Nat} {o : Nat} (ho : o = 3 ∨ o = 4) {x0 : jo_R} {x0a : Nat} (x0h : jo_mT pl x0a x0) {x2 : Int32} {S : jf_S} {out : Int64 × jf_S} (h : jo13_within F o x0 x2 S = some out) : jf_Ml l D E A fo pl yX13_within cX13_within 3 (some .long) 0 [.ref x0a, .ref (E.1 o), .int x2] S out :=
  jf_Ml_of (own := RX13) ⟨by decide, rfl, Nat.le_of_ble_eq_true rfl⟩ (fun hX => jo13_within_ok hX F o ho x0 x0h x2 S h)
theorem jo15_within_d : yX15_within.cls = RX15 ∧ yX15_within.cls ≠ "java/lang/invoke/MethodHandle" ∧ yX15_within.cls ≠ "java/lang/invoke/VarHandle" ∧ (parseMethodDescriptor yX15_within.desc).map (fun d => d.parameters.length) = some 2 := by decide +kernel
theorem jo15_within_ok {out : Int64 × jf_S} (hX : jf_Ok RX15 p R s m args meth c A D E cX15_within 3 (some .long) 1) (F : Nat) (o : Nat) (ho : o = 3 ∨ o = 4) (x0 : jo_R) {x0a : Nat} (x0h : jo_m6 pl x0a x0) (x2 : Int32) (S : jf_S) (h : jo15_within F o x0 x2 S = some out) : jf_J p l e R s m args below meth c A D E fo pl 3 (jf_Ql below args s A D E fo pl out) 0 [(0, .ref x0a), (1, .ref (E.1 o)), (2, .int x2)] [] S := by
  intro H locs ls hP hS hl
  have hX0 := hX
  obtain ⟨hx, hb, hml, hown, hts, hlk, hr, hlv, hV, het⟩ := hX0
  unfold jo15_within at h
  refine lv_iload_n hx hb dX15_within_0 rfl (lv_at hl 2 rfl) ?_
  refine lv_iconst hx hb dX15_within_1 jx_ki1 ?_
  refine lv_iadd hx hb dX15_within_2 ?_
  obtain ⟨q1, eq1, h⟩ := jx_bi_some h
  refine jx_callSNl hx hb hml hown hts (jf_nm_X15_9 hV.2.2.1) (jf_bit_met eq1) jf_bit_c jf_bit_s jf_bit_i jf_bit_d (As := [.int (x2 + (nI 1))]) (⟨Nat.le_trans (Nat.le_of_ble_eq_true rfl) hlv.1, Nat.le_trans (Nat.le_of_ble_eq_true rfl) hlv.2⟩) hl.1 rfl rfl (lv_room (Nat.le_of_ble_eq_true rfl)) dX15_within_3 ⟨Nat.zero_le _, Nat.zero_le _⟩ ?_
  exact jf_lret hx hb hr hlk hV hP hS h dX15_within_6
theorem jo15_within_met {l : Launch} {D : va_G} {E : jf_E} {A : Nat → Prop} {fo : Nat → Nat → Option Nat} {pl : va_W} {F : Nat} {o : Nat} (ho : o = 3 ∨ o = 4) {x0 : jo_R} {x0a : Nat} (x0h : jo_m6 pl x0a x0) {x2 : Int32} {S : jf_S} {out : Int64 × jf_S} (h : jo15_within F o x0 x2 S = some out) : jf_Ml l D E A fo pl yX15_within cX15_within 3 (some .long) 1 [.ref x0a, .ref (E.1 o), .int x2] S out :=
  jf_Ml_of (own := RX15) ⟨by decide, rfl, Nat.le_of_ble_eq_true rfl⟩ (fun hX => jo15_within_ok hX F o ho x0 x0h x2 S h)
theorem jo16_within_d : yX16_within.cls = RX16 ∧ yX16_within.cls ≠ "java/lang/invoke/MethodHandle" ∧ yX16_within.cls ≠ "java/lang/invoke/VarHandle" ∧ (parseMethodDescriptor yX16_within.desc).map (fun d => d.parameters.length) = some 2 := by decide +kernel
theorem jo16_within_ok {out : Int64 × jf_S} (hX : jf_Ok RX16 p R s m args meth c A D E cX16_within 3 (some .long) 0) (F : Nat) (o : Nat) (ho : o = 3 ∨ o = 4) (x0 : jo_R) {x0a : Nat} (x0h : jo_m7 pl x0a x0) (x2 : Int32) (S : jf_S) (h : jo16_within F o x0 x2 S = some out) : jf_J p l e R s m args below meth c A D E fo pl 3 (jf_Ql below args s A D E fo pl out) 0 [(0, .ref x0a), (1, .ref (E.1 o)), (2, .int x2)] [] S := by
  intro H locs ls hP hS hl
  have hX0 := hX
  obtain ⟨hx, hb, hml, hown, hts, hlk, hr, hlv, hV, het⟩ := hX0
  unfold jo16_within at h
  refine lv_lconst hx hb dX16_within_0 jx_kl0 ?_
  exact jf_lret hx hb hr hlk hV hP hS h dX16_within_1
theorem jo16_within_met {l : Launch} {D : va_G} {E : jf_E} {A : Nat → Prop} {fo : Nat → Nat → Option Nat} {pl : va_W} {F : Nat} {o : Nat} (ho : o = 3 ∨ o = 4) {x0 : jo_R} {x0a : Nat} (x0h : jo_m7 pl x0a x0) {x2 : Int32} {S : jf_S} {out : Int64 × jf_S} (h : jo16_within F o x0 x2 S = some out) : jf_Ml l D E A fo pl yX16_within cX16_within 3 (some .long) 0 [.ref x0a, .ref (E.1 o), .int x2] S out :=
  jf_Ml_of (own := RX16) ⟨by decide, rfl, Nat.le_of_ble_eq_true rfl⟩ (fun hX => jo16_within_ok hX F o ho x0 x0h x2 S h)
theorem jo18_within_d : yX18_within.cls = RX18 ∧ yX18_within.cls ≠ "java/lang/invoke/MethodHandle" ∧ yX18_within.cls ≠ "java/lang/invoke/VarHandle" ∧ (parseMethodDescriptor yX18_within.desc).map (fun d => d.parameters.length) = some 2 := by decide +kernel
theorem jo18_within_ok {out : Int64 × jf_S} (hX : jf_Ok RX18 p R s m args meth c A D E cX18_within 3 (some .long) 0) (F : Nat) (o : Nat) (ho : o = 3 ∨ o = 4) (x0 : jo_R) {x0a : Nat} (x0h : jo_m9 pl x0a x0) (x2 : Int32) (S : jf_S) (h : jo18_within F o x0 x2 S = some out) : jf_J p l e R s m args below meth c A D E fo pl 3 (jf_Ql below args s A D E fo pl out) 0 [(0, .ref x0a), (1, .ref (E.1 o)), (2, .int x2)] [] S := by
  intro H locs ls hP hS hl
  have hX0 := hX
  obtain ⟨hx, hb, hml, hown, hts, hlk, hr, hlv, hV, het⟩ := hX0
  unfold jo18_within at h
  refine lv_lconst hx hb dX18_within_0 jx_kl0 ?_
  exact jf_lret hx hb hr hlk hV hP hS h dX18_within_1
theorem jo18_within_met {l : Launch} {D : va_G} {E : jf_E} {A : Nat → Prop} {fo : Nat → Nat → Option Nat} {pl : va_W} {F : Nat} {o : Nat} (ho : o = 3 ∨ o = 4) {x0 : jo_R} {x0a : Nat} (x0h : jo_m9 pl x0a x0) {x2 : Int32} {S : jf_S} {out : Int64 × jf_S} (h : jo18_within F o x0 x2 S = some out) : jf_Ml l D E A fo pl yX18_within cX18_within 3 (some .long) 0 [.ref x0a, .ref (E.1 o), .int x2] S out :=
  jf_Ml_of (own := RX18) ⟨by decide, rfl, Nat.le_of_ble_eq_true rfl⟩ (fun hX => jo18_within_ok hX F o ho x0 x0h x2 S h)
theorem jv_within_X4 {F nL lv a : Nat} {r : jo_R} {v1 : Int32} {out : Int64 × jf_S} {stk : List Value} (hx : p.tables.exec = Jvm.exec) (hb : c.code = cc) (hml : c.maxLocals = nL) (hown : s.vm.findClass RX4 = some m.cls) (hts : ∀ w ∈ lw_all, w.before args s = true) (hlv : jx_hr R lv) (hV : jf_V D E A s) {o : Nat} (ho : o = 3 ∨ o = 4) (hi : jo_Is pl a r) (e1 : jv_within F o r v1 S = some out) (h1 : 1 + 1 ≤ lv) (hP : jf_P D E A S fo pl H) (hS : va_S A s.heap H locs) (hls : ls.size = nL) (_ : (1 : Nat) = 1) (hst : stk = ([.ref (E.1 o), .int v1] : List Value).reverse ++ .ref a :: rest) (hW : 2 * (F0 m pc ls stk).monitorRoom + (rest.map fun v => v.category).sum ≤ 8) (hdg : decode cc pc = .ok (.invokevirtual 137, 3))
    (kk : ∀ (H : Heap) (locs : List Loc), jf_P D E A out.2 fo pl H → va_S A s.heap H locs → W p l e R s m args below meth c H locs 0 0 Q (F0 m (pc + 3) ls (.long out.1 :: rest))) : W p l e R s m args below meth c H locs 0 0 Q (F0 m pc ls stk) := by
  obtain ⟨hv1, hv2⟩ := hlv
  rcases hi with ⟨e0, h0⟩ | ⟨e0, h0⟩ | ⟨e0, h0⟩ | ⟨e0, h0⟩ | ⟨e0, h0⟩ | ⟨e0, h0⟩ | ⟨e0, h0⟩ | ⟨e0, h0⟩ | ⟨e0, h0⟩ | ⟨e0, h0⟩
  · rw [jv_within, if_pos e0] at e1
    obtain ⟨q0, _, _, hq, -, -⟩ := jo_f0 (E := E) (S := S) (fo := fo) h0
    exact jf_vcallL hx hb hml hown hts hV (jo8_within_met ho (x0a := a) e1) (va_cwO (x := ⟨"JumpFence$Order", "within", "(LJumpFence$Program;I)J"⟩) (owner := "JumpFence$Order") 2 hts (jf_lwO q795 q797 q796 q816 q796 q116 q823) rfl rfl rfl q823 (by decide +kernel) ⟨by show 1 + 1 ≤ R.frames; omega, by show 8 + (3 + 11) + 40 * 1 ≤ R.locals; omega⟩) hP hS (ci := 6) hq rfl hls rfl hst hW hdg kk
  · rw [jv_within, if_neg (by rw [e0]; decide), if_pos e0] at e1
    obtain ⟨q0, hq⟩ := jf_pool (E := E) (S := S) (fo := fo) h0
    exact jf_vcallL hx hb hml hown hts hV (jo8_within_met ho (x0a := a) e1) (va_cwO (x := ⟨"JumpFence$Order", "within", "(LJumpFence$Program;I)J"⟩) (owner := "JumpFence$Order") 2 hts (jf_lwO q795 q797 q796 q815 q796 q116 q823) rfl rfl rfl q823 (by decide +kernel) ⟨by show 1 + 1 ≤ R.frames; omega, by show 8 + (3 + 11) + 40 * 1 ≤ R.locals; omega⟩) hP hS (ci := 7) hq rfl hls rfl hst hW hdg kk
  · rw [jv_within, if_neg (by rw [e0]; decide), if_neg (by rw [e0]; decide), if_pos e0] at e1
    obtain ⟨q0, hq⟩ := jf_pool (E := E) (S := S) (fo := fo) h0
    exact jf_vcallL hx hb hml hown hts hV (jo11_within_met ho h0 e1) (va_cwO (x := ⟨"JumpFence$Order", "within", "(LJumpFence$Program;I)J"⟩) (owner := "JumpFence$Order") 2 hts (jf_lwO q795 q797 q796 q811 q812 q119 q813) rfl rfl rfl q823 (by decide +kernel) ⟨by show 1 + 1 ≤ R.frames; omega, by show 8 + (3 + 11) + 40 * 1 ≤ R.locals; omega⟩) hP hS (ci := 8) hq rfl hls rfl hst hW hdg kk
  · rw [jv_within, if_neg (by rw [e0]; decide), if_neg (by rw [e0]; decide), if_neg (by rw [e0]; decide), if_pos e0] at e1
    obtain ⟨q0, _, _, hq, -, -⟩ := jo_f3 (E := E) (S := S) (fo := fo) h0
    exact jf_vcallL hx hb hml hown hts hV (jo12_within_met ho h0 e1) (va_cwO (x := ⟨"JumpFence$Order", "within", "(LJumpFence$Program;I)J"⟩) (owner := "JumpFence$Order") 2 hts (jf_lwO q795 q797 q796 q807 q808 q120 q809) rfl rfl rfl q823 (by decide +kernel) ⟨by show 1 + 1 ≤ R.frames; omega, by show 8 + (3 + 11) + 40 * 1 ≤ R.locals; omega⟩) hP hS (ci := 9) hq rfl hls rfl hst hW hdg kk
  · rw [jv_within, if_neg (by rw [e0]; decide), if_neg (by rw [e0]; decide), if_neg (by rw [e0]; decide), if_neg (by rw [e0]; decide), if_pos e0] at e1
    obtain ⟨q0, hq⟩ := jf_pool (E := E) (S := S) (fo := fo) h0
    exact jf_vcallL hx hb hml hown hts hV (jo13_within_met ho (Or.inl h0) e1) (va_cwO (x := ⟨"JumpFence$Order", "within", "(LJumpFence$Program;I)J"⟩) (owner := "JumpFence$Order") 2 hts (jf_lwO q795 q797 q796 q820 q821 q121 q822) rfl rfl rfl q823 (by decide +kernel) ⟨by show 0 + 1 ≤ R.frames; omega, by show 8 + (3 + 11) + 40 * 0 ≤ R.locals; omega⟩) hP hS (ci := 10) hq rfl hls rfl hst hW hdg kk
  · rw [jv_within, if_neg (by rw [e0]; decide), if_neg (by rw [e0]; decide), if_neg (by rw [e0]; decide), if_neg (by rw [e0]; decide), if_neg (by rw [e0]; decide), if_pos e0] at e1
    obtain ⟨q0, hq⟩ := jf_pool (E := E) (S := S) (fo := fo) h0
    exact jf_vcallL hx hb hml hown hts hV (jo8_within_met ho (x0a := a) e1) (va_cwO (x := ⟨"JumpFence$Order", "within", "(LJumpFence$Program;I)J"⟩) (owner := "JumpFence$Order") 2 hts (jf_lwO q795 q797 q796 q805 q796 q116 q823) rfl rfl rfl q823 (by decide +kernel) ⟨by show 1 + 1 ≤ R.frames; omega, by show 8 + (3 + 11) + 40 * 1 ≤ R.locals; omega⟩) hP hS (ci := 11) hq rfl hls rfl hst hW hdg kk
  · rw [jv_within, if_neg (by rw [e0]; decide), if_neg (by rw [e0]; decide), if_neg (by rw [e0]; decide), if_neg (by rw [e0]; decide), if_neg (by rw [e0]; decide), if_neg (by rw [e0]; decide), if_pos e0] at e1
    obtain ⟨q0, hq⟩ := jf_pool (E := E) (S := S) (fo := fo) h0
    exact jf_vcallL hx hb hml hown hts hV (jo15_within_met ho h0 e1) (va_cwO (x := ⟨"JumpFence$Order", "within", "(LJumpFence$Program;I)J"⟩) (owner := "JumpFence$Order") 2 hts (jf_lwO q795 q797 q796 q801 q802 q123 q803) rfl rfl rfl q823 (by decide +kernel) ⟨by show 1 + 1 ≤ R.frames; omega, by show 8 + (3 + 11) + 40 * 1 ≤ R.locals; omega⟩) hP hS (ci := 12) hq rfl hls rfl hst hW hdg kk
  · rw [jv_within, if_neg (by rw [e0]; decide), if_neg (by rw [e0]; decide), if_neg (by rw [e0]; decide), if_neg (by rw [e0]; decide), if_neg (by rw [e0]; decide), if_neg (by rw [e0]; decide), if_neg (by rw [e0]; decide), if_pos e0] at e1
    obtain ⟨q0, hq⟩ := jf_pool (E := E) (S := S) (fo := fo) h0
    exact jf_vcallL hx hb hml hown hts hV (jo16_within_met ho h0 e1) (va_cwO (x := ⟨"JumpFence$Order", "within", "(LJumpFence$Program;I)J"⟩) (owner := "JumpFence$Order") 2 hts (jf_lwO q795 q797 q796 q798 q799 q124 q800) rfl rfl rfl q823 (by decide +kernel) ⟨by show 0 + 1 ≤ R.frames; omega, by show 8 + (3 + 11) + 40 * 0 ≤ R.locals; omega⟩) hP hS (ci := 13) hq rfl hls rfl hst hW hdg kk
  · rw [jv_within, if_neg (by rw [e0]; decide), if_neg (by rw [e0]; decide), if_neg (by rw [e0]; decide), if_neg (by rw [e0]; decide), if_neg (by rw [e0]; decide), if_neg (by rw [e0]; decide), if_neg (by rw [e0]; decide), if_neg (by rw [e0]; decide), if_pos e0] at e1
    obtain ⟨q0, _, hq, -⟩ := jo_f8 (E := E) (S := S) (fo := fo) h0
    exact jf_vcallL hx hb hml hown hts hV (jo8_within_met ho (x0a := a) e1) (va_cwO (x := ⟨"JumpFence$Order", "within", "(LJumpFence$Program;I)J"⟩) (owner := "JumpFence$Order") 2 hts (jf_lwO q795 q797 q796 q806 q796 q116 q823) rfl rfl rfl q823 (by decide +kernel) ⟨by show 1 + 1 ≤ R.frames; omega, by show 8 + (3 + 11) + 40 * 1 ≤ R.locals; omega⟩) hP hS (ci := 14) hq rfl hls rfl hst hW hdg kk
  · rw [jv_within, if_neg (by rw [e0]; decide), if_neg (by rw [e0]; decide), if_neg (by rw [e0]; decide), if_neg (by rw [e0]; decide), if_neg (by rw [e0]; decide), if_neg (by rw [e0]; decide), if_neg (by rw [e0]; decide), if_neg (by rw [e0]; decide), if_neg (by rw [e0]; decide), if_pos e0] at e1
    obtain ⟨q0, hq⟩ := jf_pool (E := E) (S := S) (fo := fo) h0
    exact jf_vcallL hx hb hml hown hts hV (jo18_within_met ho h0 e1) (va_cwO (x := ⟨"JumpFence$Order", "within", "(LJumpFence$Program;I)J"⟩) (owner := "JumpFence$Order") 2 hts (jf_lwO q795 q797 q796 q817 q818 q126 q819) rfl rfl rfl q823 (by decide +kernel) ⟨by show 0 + 1 ≤ R.frames; omega, by show 8 + (3 + 11) + 40 * 0 ≤ R.locals; omega⟩) hP hS (ci := 15) hq rfl hls rfl hst hW hdg kk
theorem jp_walks_g_X4 : GoodIn lw_all (wsV RX4 113 RX4 yX4_walks (ws_ yX4_walks cX4_walks 7 (some .long))) := lw_V q791 q793 qs8 q108 q794
theorem jp_walks_d : yX4_walks.cls = RX4 ∧ yX4_walks.cls ≠ "java/lang/invoke/MethodHandle" ∧ yX4_walks.cls ≠ "java/lang/invoke/VarHandle" ∧ (parseMethodDescriptor yX4_walks.desc).map (fun d => d.parameters.length) = some 1 := by decide +kernel
theorem jp_walks_b63_ok {out : Int64 × jf_S} (hX : jf_Ok RX4 p R s m args meth c A D E cX4_walks 7 (some .long) 2) (F : Nat) (o : Nat) (ho : o = 3 ∨ o = 4) {r8 : Int64 × Int64 × jf_S → Option (Int64 × jf_S)} (hr8 : ∀ a, r8 a = some out → jf_J p l e R s m args below meth c A D E fo pl 7 (jf_Ql below args s A D E fo pl out) 8 [(0, .ref (E.1 o)), (2, .long a.1), (4, .long a.2.1)] [] a.2.2) {r21 : Int64 × Int64 × Int32 × jf_S → Option (Int64 × jf_S)} (hr21 : ∀ a, r21 a = some out → jf_J p l e R s m args below meth c A D E fo pl 7 (jf_Ql below args s A D E fo pl out) 21 [(0, .ref (E.1 o)), (2, .long a.1), (4, .long a.2.1), (6, .int a.2.2.1)] [] a.2.2.2) (x2 : Int64) (x4 : Int64) (x6 : Int32) (S : jf_S) (h : jp_walks_b63 F o r8 r21 x2 x4 x6 S = some out) : jf_J p l e R s m args below meth c A D E fo pl 7 (jf_Ql below args s A D E fo pl out) 63 [(0, .ref (E.1 o)), (2, .long x2), (4, .long x4), (6, .int x6)] [] S := by
  intro H locs ls hP hS hl
  have hX0 := hX
  obtain ⟨hx, hb, hml, hown, hts, hlk, hr, hlv, hV, het⟩ := hX0
  unfold jp_walks_b63 at h
  obtain ⟨y1, ey1, h⟩ := jx_nx_some h
  refine lv_iinc (v := y1) (lv' := [(6, .int y1), (0, .ref (E.1 o)), (2, .long x2), (4, .long x4)]) hx hb dX4_walks_63 hl (k := 3) rfl (jx_inc jx_ki1 ey1) (Nat.le_of_ble_eq_true rfl) rfl (fun ls hl => ?_)
  refine lv_goto (tgt := 21) hx hb dX4_walks_66 rfl ?_
  exact hr21 _ h _ _ _ hP hS (lv_sub hl [1, 2, 3, 0] rfl)
theorem jp_walks_L21_ok {out : Int64 × jf_S} (hX : jf_Ok RX4 p R s m args meth c A D E cX4_walks 7 (some .long) 2) (F : Nat) (o : Nat) (ho : o = 3 ∨ o = 4) {r8 : Int64 × Int64 × jf_S → Option (Int64 × jf_S)} (hr8 : ∀ a, r8 a = some out → jf_J p l e R s m args below meth c A D E fo pl 7 (jf_Ql below args s A D E fo pl out) 8 [(0, .ref (E.1 o)), (2, .long a.1), (4, .long a.2.1)] [] a.2.2) {r21 : Int64 × Int64 × Int32 × jf_S → Option (Int64 × jf_S)} (hr21 : ∀ a, r21 a = some out → jf_J p l e R s m args below meth c A D E fo pl 7 (jf_Ql below args s A D E fo pl out) 21 [(0, .ref (E.1 o)), (2, .long a.1), (4, .long a.2.1), (6, .int a.2.2.1)] [] a.2.2.2) (x2 : Int64) (x4 : Int64) (x6 : Int32) (S : jf_S) (h : jp_walks_L21 F o r8 r21 x2 x4 x6 S = some out) : jf_J p l e R s m args below meth c A D E fo pl 7 (jf_Ql below args s A D E fo pl out) 21 [(0, .ref (E.1 o)), (2, .long x2), (4, .long x4), (6, .int x6)] [] S := by
  intro H locs ls hP hS hl
  have hX0 := hX
  obtain ⟨hx, hb, hml, hown, hts, hlk, hr, hlv, hV, het⟩ := hX0
  unfold jp_walks_L21 at h
  refine lv_iload hx hb dX4_walks_21 (lv_at hl 3 rfl) ?_
  refine lv_aload_n hx hb dX4_walks_23 rfl (lv_at hl 0 rfl) ?_
  refine jf_get hx hb hts in_X4 hown hV hP (ci := 3) (k := 13) (jf_oP ho) rfl (by decide) (hts _ q308) rfl rfl dX4_walks_24 ?_
  refine lv_icmp_ge (tgt := 69) hx hb dX4_walks_27 rfl (fun c1 => ?_) (fun c1 => ?_)
  · rw [if_pos c1] at h
    refine lv_goto (tgt := 8) hx hb dX4_walks_69 rfl ?_
    exact hr8 _ h _ _ _ hP hS (lv_sub hl [0, 1, 2] rfl)
  · rw [if_neg c1] at h
    refine lv_lload hx hb dX4_walks_30 (lv_at hl 2 rfl) ?_
    refine lv_iload hx hb dX4_walks_32 (lv_at hl 3 rfl) ?_
    refine lv_lshr hx hb dX4_walks_34 rfl ?_
    refine lv_lconst hx hb dX4_walks_35 jx_kl1 ?_
    refine lv_land hx hb dX4_walks_36 ?_
    refine lv_lconst hx hb dX4_walks_37 jx_kl1 ?_
    refine W.lcmp hx hb dX4_walks_38 ?_
    refine lv_if_ne (tgt := 63) hx hb dX4_walks_39 rfl (fun c2 => ?_) (fun c2 => ?_)
    · rw [if_neg c2] at h
      exact jp_walks_b63_ok hX F o ho hr8 hr21 _ _ _ _ h _ _ _ hP hS hl
    · rw [if_pos c2] at h
      refine lv_lload_n hx hb dX4_walks_42 rfl (lv_at hl 1 rfl) ?_
      refine lv_aload_n hx hb dX4_walks_43 rfl (lv_at hl 0 rfl) ?_
      refine jf_get hx hb hts in_X4 hown hV hP (ci := 3) (k := 0) (jf_oP ho) rfl (by decide) (hts _ q275) rfl rfl dX4_walks_44 ?_
      refine lv_iload hx hb dX4_walks_47 (lv_at hl 3 rfl) ?_
      obtain ⟨j3, ej3, bj3, h⟩ := jx_ga_some h
      obtain ⟨r4, er4, h⟩ := jx_bi_some h
      refine jf_qald hx hb hV hP (jf_aP0 ho) ej3 bj3 er4 dX4_walks_49 (fun r4a r4h => ?_)
      refine lv_aload_n hx hb dX4_walks_50 rfl (lv_at hl 0 rfl) ?_
      refine lv_iload hx hb dX4_walks_51 (lv_at hl 3 rfl) ?_
      obtain ⟨q5, eq5, h⟩ := jx_bi_some h
      refine jv_within_X4 hx hb hml hown hts hlv hV ho r4h eq5 (Nat.le_of_ble_eq_true rfl) hP hS hl.1 rfl rfl (lv_room (Nat.le_of_ble_eq_true rfl)) dX4_walks_53 (fun H locs hP hS => ?_)
      refine lv_aload_n hx hb dX4_walks_56 rfl (lv_at hl 0 rfl) ?_
      obtain ⟨q6, eq6, h⟩ := jx_bi_some h
      refine jf_callL hx hb hml hown hts hlv hV (jp_all_met ho eq6) jp_all_g_X4 jp_all_d (As := []) (Nat.le_of_ble_eq_true rfl) (Nat.le_of_ble_eq_true rfl) hP hS (ci := 3) (jf_oP ho) rfl hl.1 rfl rfl (lv_room (Nat.le_of_ble_eq_true rfl)) dX4_walks_57 (fun H locs hP hS => ?_)
      refine lv_land hx hb dX4_walks_60 ?_
      refine lv_lor hx hb dX4_walks_61 ?_
      obtain ⟨y7, ey7, h⟩ := jx_nx_some h
      refine jx_topl ey7 ?_
      refine lv_lstore_n (lv' := [(2, .long y7), (0, .ref (E.1 o)), (4, .long x4), (6, .int x6)]) hx hb dX4_walks_62 rfl hl (Nat.le_of_ble_eq_true rfl) rfl (fun ls hl => ?_)
      exact jp_walks_b63_ok hX F o ho hr8 hr21 _ _ _ _ h _ _ _ hP hS (lv_sub hl [1, 0, 2, 3] rfl)
theorem jp_walks_h21_ok {out : Int64 × jf_S} (hX : jf_Ok RX4 p R s m args meth c A D E cX4_walks 7 (some .long) 2) (F : Nat) (o : Nat) (ho : o = 3 ∨ o = 4) {r8 : Int64 × Int64 × jf_S → Option (Int64 × jf_S)} (hr8 : ∀ a, r8 a = some out → jf_J p l e R s m args below meth c A D E fo pl 7 (jf_Ql below args s A D E fo pl out) 8 [(0, .ref (E.1 o)), (2, .long a.1), (4, .long a.2.1)] [] a.2.2) (n : Nat) (a : Int64 × Int64 × Int32 × jf_S) (h : jp_walks_h21 F o r8 n a = some out) : jf_J p l e R s m args below meth c A D E fo pl 7 (jf_Ql below args s A D E fo pl out) 21 [(0, .ref (E.1 o)), (2, .long a.1), (4, .long a.2.1), (6, .int a.2.2.1)] [] a.2.2.2 :=
  jx_loop_ind (J := fun a => jf_J p l e R s m args below meth c A D E fo pl 7 (jf_Ql below args s A D E fo pl out) 21 [(0, .ref (E.1 o)), (2, .long a.1), (4, .long a.2.1), (6, .int a.2.2.1)] [] a.2.2.2) (fun r hr a h => jp_walks_L21_ok hX F o ho hr8 hr a.1 a.2.1 a.2.2.1 a.2.2.2 h) n a h
theorem jp_walks_L8_ok {out : Int64 × jf_S} (hX : jf_Ok RX4 p R s m args meth c A D E cX4_walks 7 (some .long) 2) (F : Nat) (o : Nat) (ho : o = 3 ∨ o = 4) {r8 : Int64 × Int64 × jf_S → Option (Int64 × jf_S)} (hr8 : ∀ a, r8 a = some out → jf_J p l e R s m args below meth c A D E fo pl 7 (jf_Ql below args s A D E fo pl out) 8 [(0, .ref (E.1 o)), (2, .long a.1), (4, .long a.2.1)] [] a.2.2) (x2 : Int64) (x4 : Int64) (S : jf_S) (h : jp_walks_L8 F o r8 x2 x4 S = some out) : jf_J p l e R s m args below meth c A D E fo pl 7 (jf_Ql below args s A D E fo pl out) 8 [(0, .ref (E.1 o)), (2, .long x2), (4, .long x4)] [] S := by
  intro H locs ls hP hS hl
  have hX0 := hX
  obtain ⟨hx, hb, hml, hown, hts, hlk, hr, hlv, hV, het⟩ := hX0
  unfold jp_walks_L8 at h
  refine lv_lload_n hx hb dX4_walks_8 rfl (lv_at hl 1 rfl) ?_
  refine lv_lload hx hb dX4_walks_9 (lv_at hl 2 rfl) ?_
  refine W.lcmp hx hb dX4_walks_11 ?_
  refine lv_if_eq (tgt := 72) hx hb dX4_walks_12 rfl (fun c1 => ?_) (fun c1 => ?_)
  · rw [if_pos c1] at h
    refine lv_lload_n hx hb dX4_walks_72 rfl (lv_at hl 1 rfl) ?_
    exact jf_lret hx hb hr hlk hV hP hS h dX4_walks_73
  · rw [if_neg c1] at h
    refine lv_lload_n hx hb dX4_walks_15 rfl (lv_at hl 1 rfl) ?_
    refine lv_lstore (lv' := [(4, .long x2), (0, .ref (E.1 o)), (2, .long x2)]) hx hb dX4_walks_16 hl (Nat.le_of_ble_eq_true rfl) rfl (fun ls hl => ?_)
    refine lv_iconst hx hb dX4_walks_18 jx_ki0 ?_
    obtain ⟨y2, ey2, h⟩ := jx_nx_some h
    refine jx_topi ey2 ?_
    refine lv_istore (lv' := [(6, .int y2), (4, .long x2), (0, .ref (E.1 o)), (2, .long x2)]) hx hb dX4_walks_19 hl (Nat.le_of_ble_eq_true rfl) rfl (fun ls hl => ?_)
    exact jp_walks_h21_ok hX F o ho hr8 F _ h _ _ _ hP hS (lv_sub hl [2, 3, 1, 0] rfl)
theorem jp_walks_h8_ok {out : Int64 × jf_S} (hX : jf_Ok RX4 p R s m args meth c A D E cX4_walks 7 (some .long) 2) (F : Nat) (o : Nat) (ho : o = 3 ∨ o = 4) (n : Nat) (a : Int64 × Int64 × jf_S) (h : jp_walks_h8 F o n a = some out) : jf_J p l e R s m args below meth c A D E fo pl 7 (jf_Ql below args s A D E fo pl out) 8 [(0, .ref (E.1 o)), (2, .long a.1), (4, .long a.2.1)] [] a.2.2 :=
  jx_loop_ind (J := fun a => jf_J p l e R s m args below meth c A D E fo pl 7 (jf_Ql below args s A D E fo pl out) 8 [(0, .ref (E.1 o)), (2, .long a.1), (4, .long a.2.1)] [] a.2.2) (fun r hr a h => jp_walks_L8_ok hX F o ho hr a.1 a.2.1 a.2.2 h) n a h
theorem jp_walks_ok {out : Int64 × jf_S} (hX : jf_Ok RX4 p R s m args meth c A D E cX4_walks 7 (some .long) 2) (F : Nat) (o : Nat) (ho : o = 3 ∨ o = 4) (x1 : Int32) (S : jf_S) (h : jp_walks F o x1 S = some out) : jf_J p l e R s m args below meth c A D E fo pl 7 (jf_Ql below args s A D E fo pl out) 0 [(0, .ref (E.1 o)), (1, .int x1)] [] S := by
  intro H locs ls hP hS hl
  have hX0 := hX
  obtain ⟨hx, hb, hml, hown, hts, hlk, hr, hlv, hV, het⟩ := hX0
  unfold jp_walks at h
  refine lv_iload_n hx hb dX4_walks_0 rfl (lv_at hl 1 rfl) ?_
  obtain ⟨q1, eq1, h⟩ := jx_bi_some h
  refine jx_callSNl hx hb hml hown hts (jf_nm_X4_89 hV.2.2.1) (jf_bit_met eq1) jf_bit_c jf_bit_s jf_bit_i jf_bit_d (As := [.int x1]) (⟨Nat.le_trans (Nat.le_of_ble_eq_true rfl) hlv.1, Nat.le_trans (Nat.le_of_ble_eq_true rfl) hlv.2⟩) hl.1 rfl rfl (lv_room (Nat.le_of_ble_eq_true rfl)) dX4_walks_1 ⟨Nat.zero_le _, Nat.zero_le _⟩ ?_
  refine lv_lstore_n (lv' := [(2, .long q1), (0, .ref (E.1 o)), (1, .int x1)]) hx hb dX4_walks_4 rfl hl (Nat.le_of_ble_eq_true rfl) rfl (fun ls hl => ?_)
  refine lv_lconst hx hb dX4_walks_5 jx_kl0 ?_
  obtain ⟨y2, ey2, h⟩ := jx_nx_some h
  refine jx_topl ey2 ?_
  refine lv_lstore (lv' := [(4, .long y2), (2, .long q1), (0, .ref (E.1 o)), (1, .int x1)]) hx hb dX4_walks_6 hl (Nat.le_of_ble_eq_true rfl) rfl (fun ls hl => ?_)
  exact jp_walks_h8_ok hX F o ho F _ h _ _ _ hP hS (lv_sub hl [2, 1, 0] rfl)
theorem jp_walks_met {l : Launch} {D : va_G} {E : jf_E} {A : Nat → Prop} {fo : Nat → Nat → Option Nat} {pl : va_W} {F : Nat} {o : Nat} (ho : o = 3 ∨ o = 4) {x1 : Int32} {S : jf_S} {out : Int64 × jf_S} (h : jp_walks F o x1 S = some out) : jf_Ml l D E A fo pl yX4_walks cX4_walks 7 (some .long) 2 [.ref (E.1 o), .int x1] S out :=
  jf_Ml_of (own := RX4) ⟨by decide, rfl, Nat.le_of_ble_eq_true rfl⟩ (fun hX => jp_walks_ok hX F o ho x1 S h)
end

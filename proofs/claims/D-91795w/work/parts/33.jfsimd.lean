set_option maxRecDepth 100000
set_option maxHeartbeats 4000000
section
variable {p : Program} {l : Launch} {e : Env} {R : Room} {s : State} {m : MethodId} {args : Array Value} {below : List Frame} {meth : Method} {c : Code} {A : Nat → Prop} {D : va_G} {E : jf_E} {fo : Nat → Nat → Option Nat} {pl : va_W} {lv : Nat} {H : Heap} {locs : List Loc} {Q : State → Prop} {pc : Nat} {ls : Array Slot} {rest : List Value} {cc : ByteArray} {S : jf_S}
theorem jf_four_g_X1 : GoodIn lw_all (wsV RX1 111 RX1 yX1_four (ws_ yX1_four cX1_four 3 none)) := lw_V q507 q509 qs1 q102 q510
theorem jf_four_d : yX1_four.cls = RX1 ∧ yX1_four.cls ≠ "java/lang/invoke/MethodHandle" ∧ yX1_four.cls ≠ "java/lang/invoke/VarHandle" ∧ (parseMethodDescriptor yX1_four.desc).map (fun d => d.parameters.length) = some 1 := by decide +kernel
theorem jf_four_L3_ok {out : jf_S} (hX : jf_Ok RX1 p R s m args meth c A D E cX1_four 3 none 0) (F : Nat) {r3 : Int32 × Int32 × jf_S → Option (jf_S)} (hr3 : ∀ a, r3 a = some out → jf_J p l e R s m args below meth c A D E fo pl 3 (jf_Qv below args s A D E fo pl out) 3 [(0, .ref (E.1 0)), (1, .int a.1), (2, .int a.2.1)] [] a.2.2) (x1 : Int32) (x2 : Int32) (S : jf_S) (h : jf_four_L3 F r3 x1 x2 S = some out) : jf_J p l e R s m args below meth c A D E fo pl 3 (jf_Qv below args s A D E fo pl out) 3 [(0, .ref (E.1 0)), (1, .int x1), (2, .int x2)] [] S := by
  intro H locs ls hP hS hl
  have hX0 := hX
  obtain ⟨hx, hb, hml, hown, hts, hlk, hr, hlv, hV, het⟩ := hX0
  unfold jf_four_L3 at h
  refine lv_iload_n hx hb dX1_four_3 rfl (lv_at hl 2 rfl) ?_
  refine lv_if_lt (tgt := 45) hx hb dX1_four_4 rfl (fun c1 => ?_) (fun c1 => ?_)
  · rw [if_pos c1] at h
    exact jf_vret hx hb hr hlk hV hP hS h dX1_four_45
  · rw [if_neg c1] at h
    refine lv_aload_n hx hb dX1_four_7 rfl (lv_at hl 0 rfl) ?_
    refine jf_get hx hb hts in_X1 hown hV hP (ci := 1) (k := 0) jf_o0 rfl (by decide) (hts _ q454) rfl rfl dX1_four_8 ?_
    refine jf_getN hx hb hts in_X2 hown hV hP (ci := 2) (k := 0) jf_o1 rfl (by decide) (jf_l_X1_104 hV.2.2.1) rfl rfl dX1_four_11 ?_
    refine lv_aload_n hx hb dX1_four_14 rfl (lv_at hl 0 rfl) ?_
    refine jf_get hx hb hts in_X1 hown hV hP (ci := 1) (k := 0) jf_o0 rfl (by decide) (hts _ q454) rfl rfl dX1_four_15 ?_
    refine jf_getN hx hb hts in_X2 hown hV hP (ci := 2) (k := 4) jf_o1 rfl (by decide) (jf_l_X1_108 hV.2.2.1) rfl rfl dX1_four_18 ?_
    refine lv_iload_n hx hb dX1_four_21 rfl (lv_at hl 1 rfl) ?_
    refine lv_iload_n hx hb dX1_four_22 rfl (lv_at hl 2 rfl) ?_
    refine lv_ishr hx hb dX1_four_23 ?_
    refine lv_i2b hx hb dX1_four_24 rfl ?_
    obtain ⟨j2, ej2, bj2, h⟩ := jx_ga_some h
    obtain ⟨S3, eS3, h⟩ := jx_nx_some h
    refine jf_bast hx hb hV hP hS jf_a1_0 ej2 bj2 eS3 dX1_four_25 (fun H locs hP hS => ?_)
    refine lv_aload_n hx hb dX1_four_26 rfl (lv_at hl 0 rfl) ?_
    refine jf_get hx hb hts in_X1 hown hV hP (ci := 1) (k := 0) jf_o0 rfl (by decide) (hts _ q454) rfl rfl dX1_four_27 ?_
    refine lv_dup hx hb dX1_four_30 rfl ?_
    refine jf_getN hx hb hts in_X2 hown hV hP (ci := 2) (k := 4) jf_o1 rfl (by decide) (jf_l_X1_108 hV.2.2.1) rfl rfl dX1_four_31 ?_
    refine lv_iconst hx hb dX1_four_34 jx_ki1 ?_
    refine lv_iadd hx hb dX1_four_35 ?_
    obtain ⟨S4, eS4, h⟩ := jx_nx_some h
    refine jf_putN (S1 := S4) hx hb hts in_X2 tyX2_ok nmX2 hown hV hP hS (ci := 2) (k := 4) (by rw [eS4]; rfl) jf_o1 (by rw [eS4]; exact jf_s1_4 _) rfl (by decide) (jf_l_X1_108 hV.2.2.1) rfl rfl (tyX2_ok 4 (by decide)) ⟨rfl, rfl⟩ (Nat.le_of_ble_eq_true rfl) dX1_four_36 (fun H locs hP hS => ?_)
    obtain ⟨y5, ey5, h⟩ := jx_nx_some h
    refine lv_iinc (v := y5) (lv' := [(2, .int y5), (0, .ref (E.1 0)), (1, .int x1)]) hx hb dX1_four_39 hl (k := 2) rfl (jx_inc jx_kim8 ey5) (Nat.le_of_ble_eq_true rfl) rfl (fun ls hl => ?_)
    refine lv_goto (tgt := 3) hx hb dX1_four_42 rfl ?_
    exact hr3 _ h _ _ _ hP hS (lv_sub hl [1, 2, 0] rfl)
theorem jf_four_h3_ok {out : jf_S} (hX : jf_Ok RX1 p R s m args meth c A D E cX1_four 3 none 0) (F : Nat) (n : Nat) (a : Int32 × Int32 × jf_S) (h : jf_four_h3 F n a = some out) : jf_J p l e R s m args below meth c A D E fo pl 3 (jf_Qv below args s A D E fo pl out) 3 [(0, .ref (E.1 0)), (1, .int a.1), (2, .int a.2.1)] [] a.2.2 :=
  jx_loop_ind (J := fun a => jf_J p l e R s m args below meth c A D E fo pl 3 (jf_Qv below args s A D E fo pl out) 3 [(0, .ref (E.1 0)), (1, .int a.1), (2, .int a.2.1)] [] a.2.2) (fun r hr a h => jf_four_L3_ok hX F hr a.1 a.2.1 a.2.2 h) n a h
theorem jf_four_ok {out : jf_S} (hX : jf_Ok RX1 p R s m args meth c A D E cX1_four 3 none 0) (F : Nat) (x1 : Int32) (S : jf_S) (h : jf_four F x1 S = some out) : jf_J p l e R s m args below meth c A D E fo pl 3 (jf_Qv below args s A D E fo pl out) 0 [(0, .ref (E.1 0)), (1, .int x1)] [] S := by
  intro H locs ls hP hS hl
  have hX0 := hX
  obtain ⟨hx, hb, hml, hown, hts, hlk, hr, hlv, hV, het⟩ := hX0
  unfold jf_four at h
  refine lv_bipush hx hb dX1_four_0 jx_kb24 ?_
  obtain ⟨y1, ey1, h⟩ := jx_nx_some h
  refine jx_topi ey1 ?_
  refine lv_istore_n (lv' := [(2, .int y1), (0, .ref (E.1 0)), (1, .int x1)]) hx hb dX1_four_2 rfl hl (Nat.le_of_ble_eq_true rfl) rfl (fun ls hl => ?_)
  exact jf_four_h3_ok hX F F _ h _ _ _ hP hS (lv_sub hl [1, 2, 0] rfl)
theorem jf_four_met {l : Launch} {D : va_G} {E : jf_E} {A : Nat → Prop} {fo : Nat → Nat → Option Nat} {pl : va_W} {F : Nat} {x1 : Int32} {S : jf_S} {out : jf_S} (h : jf_four F x1 S = some out) : jf_Mv l D E A fo pl yX1_four cX1_four 3 none 0 [.ref (E.1 0), .int x1] S out :=
  jf_Mv_of (own := RX1) ⟨by decide, rfl, Nat.le_of_ble_eq_true rfl⟩ (fun hX => jf_four_ok hX F x1 S h)
theorem jf_feed_d : yX1_feed.cls = RX1 ∧ yX1_feed.cls ≠ "java/lang/invoke/MethodHandle" ∧ yX1_feed.cls ≠ "java/lang/invoke/VarHandle" ∧ (parseMethodDescriptor yX1_feed.desc).map (fun d => d.parameters.length) = some 5 := by decide +kernel
theorem jf_feed_ok {out : Int32 × jf_S} (hX : jf_Ok RX1 p R s m args meth c A D E cX1_feed 6 (some .int) 1) (F : Nat) (x1 : Int32) (x2 : Int32) (x3 : Int32) (x4 : Int32) (x5 : Int32) (S : jf_S) (h : jf_feed F x1 x2 x3 x4 x5 S = some out) : jf_J p l e R s m args below meth c A D E fo pl 6 (jf_Qi below args s A D E fo pl out) 0 [(0, .ref (E.1 0)), (1, .int x1), (2, .int x2), (3, .int x3), (4, .int x4), (5, .int x5)] [] S := by
  intro H locs ls hP hS hl
  have hX0 := hX
  obtain ⟨hx, hb, hml, hown, hts, hlk, hr, hlv, hV, het⟩ := hX0
  unfold jf_feed at h
  refine lv_aload_n hx hb dX1_feed_0 rfl (lv_at hl 0 rfl) ?_
  refine jf_get hx hb hts in_X1 hown hV hP (ci := 1) (k := 0) jf_o0 rfl (by decide) (hts _ q454) rfl rfl dX1_feed_1 ?_
  refine jf_getN hx hb hts in_X2 hown hV hP (ci := 2) (k := 4) jf_o1 rfl (by decide) (jf_l_X1_108 hV.2.2.1) rfl rfl dX1_feed_4 ?_
  refine lv_bipush hx hb dX1_feed_7 jx_kb20 ?_
  refine lv_iadd hx hb dX1_feed_9 ?_
  refine lv_sipush hx hb dX1_feed_10 jx_ks400 ?_
  refine lv_icmp_le (tgt := 18) hx hb dX1_feed_13 rfl (fun c1 => ?_) (fun c1 => ?_)
  · rw [if_pos c1] at h
    refine lv_aload_n hx hb dX1_feed_18 rfl (lv_at hl 0 rfl) ?_
    refine lv_iload_n hx hb dX1_feed_19 rfl (lv_at hl 1 rfl) ?_
    obtain ⟨q2, eq2, h⟩ := jx_bi_some h
    refine jf_callV hx hb hml hown hts hlv hV (jf_four_met eq2) jf_four_g_X1 jf_four_d (As := [.int x1]) (Nat.le_of_ble_eq_true rfl) (Nat.le_of_ble_eq_true rfl) hP hS (ci := 1) jf_o0 rfl hl.1 rfl rfl (lv_room (Nat.le_of_ble_eq_true rfl)) dX1_feed_20 (fun H locs hP hS => ?_)
    refine lv_aload_n hx hb dX1_feed_23 rfl (lv_at hl 0 rfl) ?_
    refine lv_iload_n hx hb dX1_feed_24 rfl (lv_at hl 2 rfl) ?_
    obtain ⟨q3, eq3, h⟩ := jx_bi_some h
    refine jf_callV hx hb hml hown hts hlv hV (jf_four_met eq3) jf_four_g_X1 jf_four_d (As := [.int x2]) (Nat.le_of_ble_eq_true rfl) (Nat.le_of_ble_eq_true rfl) hP hS (ci := 1) jf_o0 rfl hl.1 rfl rfl (lv_room (Nat.le_of_ble_eq_true rfl)) dX1_feed_25 (fun H locs hP hS => ?_)
    refine lv_aload_n hx hb dX1_feed_28 rfl (lv_at hl 0 rfl) ?_
    refine lv_iload_n hx hb dX1_feed_29 rfl (lv_at hl 3 rfl) ?_
    obtain ⟨q4, eq4, h⟩ := jx_bi_some h
    refine jf_callV hx hb hml hown hts hlv hV (jf_four_met eq4) jf_four_g_X1 jf_four_d (As := [.int x3]) (Nat.le_of_ble_eq_true rfl) (Nat.le_of_ble_eq_true rfl) hP hS (ci := 1) jf_o0 rfl hl.1 rfl rfl (lv_room (Nat.le_of_ble_eq_true rfl)) dX1_feed_30 (fun H locs hP hS => ?_)
    refine lv_aload_n hx hb dX1_feed_33 rfl (lv_at hl 0 rfl) ?_
    refine lv_iload hx hb dX1_feed_34 (lv_at hl 4 rfl) ?_
    obtain ⟨q5, eq5, h⟩ := jx_bi_some h
    refine jf_callV hx hb hml hown hts hlv hV (jf_four_met eq5) jf_four_g_X1 jf_four_d (As := [.int x4]) (Nat.le_of_ble_eq_true rfl) (Nat.le_of_ble_eq_true rfl) hP hS (ci := 1) jf_o0 rfl hl.1 rfl rfl (lv_room (Nat.le_of_ble_eq_true rfl)) dX1_feed_36 (fun H locs hP hS => ?_)
    refine lv_aload_n hx hb dX1_feed_39 rfl (lv_at hl 0 rfl) ?_
    refine lv_iload hx hb dX1_feed_40 (lv_at hl 5 rfl) ?_
    obtain ⟨q6, eq6, h⟩ := jx_bi_some h
    refine jf_callV hx hb hml hown hts hlv hV (jf_four_met eq6) jf_four_g_X1 jf_four_d (As := [.int x5]) (Nat.le_of_ble_eq_true rfl) (Nat.le_of_ble_eq_true rfl) hP hS (ci := 1) jf_o0 rfl hl.1 rfl rfl (lv_room (Nat.le_of_ble_eq_true rfl)) dX1_feed_42 (fun H locs hP hS => ?_)
    refine lv_aload_n hx hb dX1_feed_45 rfl (lv_at hl 0 rfl) ?_
    refine jf_get hx hb hts in_X1 hown hV hP (ci := 1) (k := 0) jf_o0 rfl (by decide) (hts _ q454) rfl rfl dX1_feed_46 ?_
    refine jf_getN hx hb hts in_X2 hown hV hP (ci := 2) (k := 4) jf_o1 rfl (by decide) (jf_l_X1_108 hV.2.2.1) rfl rfl dX1_feed_49 ?_
    exact jf_iret hx hb hr hlk hV hP hS h dX1_feed_52
  · rw [if_neg c1] at h
    refine lv_iconst hx hb dX1_feed_16 jx_kim1 ?_
    exact jf_iret hx hb hr hlk hV hP hS h dX1_feed_17
theorem jf_feed_met {l : Launch} {D : va_G} {E : jf_E} {A : Nat → Prop} {fo : Nat → Nat → Option Nat} {pl : va_W} {F : Nat} {x1 : Int32} {x2 : Int32} {x3 : Int32} {x4 : Int32} {x5 : Int32} {S : jf_S} {out : Int32 × jf_S} (h : jf_feed F x1 x2 x3 x4 x5 S = some out) : jf_Mi l D E A fo pl yX1_feed cX1_feed 6 (some .int) 1 [.ref (E.1 0), .int x1, .int x2, .int x3, .int x4, .int x5] S out :=
  jf_Mi_of (own := RX1) ⟨by decide, rfl, Nat.le_of_ble_eq_true rfl⟩ (fun hX => jf_feed_ok hX F x1 x2 x3 x4 x5 S h)
theorem jf_end_d : yX1_end.cls = RX1 ∧ yX1_end.cls ≠ "java/lang/invoke/MethodHandle" ∧ yX1_end.cls ≠ "java/lang/invoke/VarHandle" ∧ (parseMethodDescriptor yX1_end.desc).map (fun d => d.parameters.length) = some 1 := by decide +kernel
theorem jf_end_ok {out : Int32 × jf_S} (hX : jf_Ok RX1 p R s m args meth c A D E cX1_end 2 (some .boolean) 1) (F : Nat) (x1 : Int32) (S : jf_S) (h : jf_end F x1 S = some out) : jf_J p l e R s m args below meth c A D E fo pl 2 (jf_Qi below args s A D E fo pl out) 0 [(0, .ref (E.1 0)), (1, .int x1)] [] S := by
  intro H locs ls hP hS hl
  have hX0 := hX
  obtain ⟨hx, hb, hml, hown, hts, hlk, hr, hlv, hV, het⟩ := hX0
  unfold jf_end at h
  refine lv_iload_n hx hb dX1_end_0 rfl (lv_at hl 1 rfl) ?_
  refine lv_iconst hx hb dX1_end_1 jx_ki0 ?_
  refine lv_aload_n hx hb dX1_end_2 rfl (lv_at hl 0 rfl) ?_
  refine jf_get hx hb hts in_X1 hown hV hP (ci := 1) (k := 0) jf_o0 rfl (by decide) (hts _ q454) rfl rfl dX1_end_3 ?_
  refine jf_getN hx hb hts in_X2 hown hV hP (ci := 2) (k := 4) jf_o1 rfl (by decide) (jf_l_X1_108 hV.2.2.1) rfl rfl dX1_end_6 ?_
  obtain ⟨q1, eq1, h⟩ := jx_bi_some h
  refine jx_callSi hx hb hml hown hts (jf_isIn_met eq1) jf_isIn_g_X1 jf_isIn_d (As := [.int x1, .int (nI 0), .int (S.1 1 4)]) (⟨Nat.le_trans (Nat.le_of_ble_eq_true rfl) hlv.1, Nat.le_trans (Nat.le_of_ble_eq_true rfl) hlv.2⟩) hl.1 rfl rfl (lv_room (Nat.le_of_ble_eq_true rfl)) dX1_end_9 ⟨Nat.zero_le _, Nat.zero_le _⟩ ?_
  refine lv_if_ne (tgt := 17) hx hb dX1_end_12 rfl (fun c2 => ?_) (fun c2 => ?_)
  · rw [if_neg c2] at h
    refine lv_aload_n hx hb dX1_end_17 rfl (lv_at hl 0 rfl) ?_
    refine jf_get hx hb hts in_X1 hown hV hP (ci := 1) (k := 0) jf_o0 rfl (by decide) (hts _ q454) rfl rfl dX1_end_18 ?_
    refine lv_iload_n hx hb dX1_end_21 rfl (lv_at hl 1 rfl) ?_
    obtain ⟨S3, eS3, h⟩ := jx_nx_some h
    refine jf_putN (S1 := S3) hx hb hts in_X2 tyX2_ok nmX2 hown hV hP hS (ci := 2) (k := 4) (by rw [eS3]; rfl) jf_o1 (by rw [eS3]; exact jf_s1_4 _) rfl (by decide) (jf_l_X1_108 hV.2.2.1) rfl rfl (tyX2_ok 4 (by decide)) ⟨rfl, rfl⟩ (Nat.le_of_ble_eq_true rfl) dX1_end_22 (fun H locs hP hS => ?_)
    refine lv_iconst hx hb dX1_end_25 jx_ki1 ?_
    exact jf_zret hx hb hr hlk hV hP hS jx_nz1 h dX1_end_26
  · rw [if_pos c2] at h
    refine lv_iconst hx hb dX1_end_15 jx_ki0 ?_
    exact jf_zret hx hb hr hlk hV hP hS jx_nz0 h dX1_end_16
theorem jf_end_met {l : Launch} {D : va_G} {E : jf_E} {A : Nat → Prop} {fo : Nat → Nat → Option Nat} {pl : va_W} {F : Nat} {x1 : Int32} {S : jf_S} {out : Int32 × jf_S} (h : jf_end F x1 S = some out) : jf_Mi l D E A fo pl yX1_end cX1_end 2 (some .boolean) 1 [.ref (E.1 0), .int x1] S out :=
  jf_Mi_of (own := RX1) ⟨by decide, rfl, Nat.le_of_ble_eq_true rfl⟩ (fun hX => jf_end_ok hX F x1 S h)
theorem jf_fault_d : yX1_fault.cls = RX1 ∧ yX1_fault.cls ≠ "java/lang/invoke/MethodHandle" ∧ yX1_fault.cls ≠ "java/lang/invoke/VarHandle" ∧ (parseMethodDescriptor yX1_fault.desc).map (fun d => d.parameters.length) = some 0 := by decide +kernel
theorem jf_fault_ok {out : Int32 × jf_S} (hX : jf_Ok RX1 p R s m args meth c A D E cX1_fault 1 (some .int) 0) (F : Nat)  (S : jf_S) (h : jf_fault F  S = some out) : jf_J p l e R s m args below meth c A D E fo pl 1 (jf_Qi below args s A D E fo pl out) 0 [(0, .ref (E.1 0))] [] S := by
  intro H locs ls hP hS hl
  have hX0 := hX
  obtain ⟨hx, hb, hml, hown, hts, hlk, hr, hlv, hV, het⟩ := hX0
  unfold jf_fault at h
  refine lv_aload_n hx hb dX1_fault_0 rfl (lv_at hl 0 rfl) ?_
  refine jf_get hx hb hts in_X1 hown hV hP (ci := 1) (k := 12) jf_o0 rfl (by decide) (hts _ q466) rfl rfl dX1_fault_1 ?_
  exact jf_iret hx hb hr hlk hV hP hS h dX1_fault_4
theorem jf_fault_met {l : Launch} {D : va_G} {E : jf_E} {A : Nat → Prop} {fo : Nat → Nat → Option Nat} {pl : va_W} {F : Nat}  {S : jf_S} {out : Int32 × jf_S} (h : jf_fault F  S = some out) : jf_Mi l D E A fo pl yX1_fault cX1_fault 1 (some .int) 0 [.ref (E.1 0)] S out :=
  jf_Mi_of (own := RX1) ⟨by decide, rfl, Nat.le_of_ble_eq_true rfl⟩ (fun hX => jf_fault_ok hX F  S h)
theorem jf_straight_d : yX1_straight.cls = RX1 ∧ yX1_straight.cls ≠ "java/lang/invoke/MethodHandle" ∧ yX1_straight.cls ≠ "java/lang/invoke/VarHandle" ∧ (parseMethodDescriptor yX1_straight.desc).map (fun d => d.parameters.length) = some 0 := by decide +kernel
theorem jf_straight_ok {out : Int32 × jf_S} (hX : jf_Ok RX1 p R s m args meth c A D E cX1_straight 2 (some .int) 0) (F : Nat)  (S : jf_S) (h : jf_straight F  S = some out) : jf_J p l e R s m args below meth c A D E fo pl 2 (jf_Qi below args s A D E fo pl out) 0 [(0, .ref (E.1 0))] [] S := by
  intro H locs ls hP hS hl
  have hX0 := hX
  obtain ⟨hx, hb, hml, hown, hts, hlk, hr, hlv, hV, het⟩ := hX0
  unfold jf_straight at h
  refine lv_aload_n hx hb dX1_straight_0 rfl (lv_at hl 0 rfl) ?_
  refine jf_get hx hb hts in_X1 hown hV hP (ci := 1) (k := 1) jf_o0 rfl (by decide) (hts _ q455) rfl rfl dX1_straight_1 ?_
  refine jf_getN hx hb hts in_X4 hown hV hP (ci := 3) (k := 16) (jf_oP (Or.inl rfl)) rfl (by decide) (jf_l_X1_174 hV.2.2.1) rfl rfl dX1_straight_4 ?_
  obtain ⟨y1, ey1, h⟩ := jx_nx_some h
  refine jx_topi ey1 ?_
  refine lv_istore_n (lv' := [(1, .int y1), (0, .ref (E.1 0))]) hx hb dX1_straight_7 rfl hl (Nat.le_of_ble_eq_true rfl) rfl (fun ls hl => ?_)
  refine lv_aload_n hx hb dX1_straight_8 rfl (lv_at hl 1 rfl) ?_
  refine jf_get hx hb hts in_X1 hown hV hP (ci := 1) (k := 1) jf_o0 rfl (by decide) (hts _ q455) rfl rfl dX1_straight_9 ?_
  refine lv_iconst hx hb dX1_straight_12 jx_ki0 ?_
  obtain ⟨S2, eS2, h⟩ := jx_nx_some h
  refine jf_putN (S1 := S2) hx hb hts in_X4 tyX4_ok nmX4 hown hV hP hS (ci := 3) (k := 16) (by rw [eS2]; rfl) (jf_oP (Or.inl rfl)) (by rw [eS2]; exact (jf_sP16 (Or.inl rfl)) _) rfl (by decide) (jf_l_X1_174 hV.2.2.1) rfl rfl (tyX4_ok 16 (by decide)) ⟨rfl, rfl⟩ (Nat.le_of_ble_eq_true rfl) dX1_straight_13 (fun H locs hP hS => ?_)
  refine lv_iload_n hx hb dX1_straight_16 rfl (lv_at hl 0 rfl) ?_
  exact jf_iret hx hb hr hlk hV hP hS h dX1_straight_17
theorem jf_straight_met {l : Launch} {D : va_G} {E : jf_E} {A : Nat → Prop} {fo : Nat → Nat → Option Nat} {pl : va_W} {F : Nat}  {S : jf_S} {out : Int32 × jf_S} (h : jf_straight F  S = some out) : jf_Mi l D E A fo pl yX1_straight cX1_straight 2 (some .int) 0 [.ref (E.1 0)] S out :=
  jf_Mi_of (own := RX1) ⟨by decide, rfl, Nat.le_of_ble_eq_true rfl⟩ (fun hX => jf_straight_ok hX F  S h)
theorem jf_step_d : yX1_step.cls = RX1 ∧ yX1_step.cls ≠ "java/lang/invoke/MethodHandle" ∧ yX1_step.cls ≠ "java/lang/invoke/VarHandle" ∧ (parseMethodDescriptor yX1_step.desc).map (fun d => d.parameters.length) = some 2 := by decide +kernel
theorem jf_step_ok {out : Int32 × jf_S} (hX : jf_Ok RX1 p R s m args meth c A D E cX1_step 3 (some .int) 8) (F : Nat) (x1 : Int32) (x2 : Int32) (S : jf_S) (h : jf_step F x1 x2 S = some out) : jf_J p l e R s m args below meth c A D E fo pl 3 (jf_Qi below args s A D E fo pl out) 0 [(0, .ref (E.1 0)), (1, .int x1), (2, .int x2)] [] S := by
  intro H locs ls hP hS hl
  have hX0 := hX
  obtain ⟨hx, hb, hml, hown, hts, hlk, hr, hlv, hV, het⟩ := hX0
  unfold jf_step at h
  refine lv_aload_n hx hb dX1_step_0 rfl (lv_at hl 0 rfl) ?_
  refine jf_get hx hb hts in_X1 hown hV hP (ci := 1) (k := 3) jf_o0 rfl (by decide) (hts _ q457) rfl rfl dX1_step_1 ?_
  refine lv_iload_n hx hb dX1_step_4 rfl (lv_at hl 1 rfl) ?_
  refine lv_iconst hx hb dX1_step_5 jx_ki1 ?_
  obtain ⟨q1, eq1, h⟩ := jx_bi_some h
  refine jf_callV hx hb hml hown hts hlv hV (jk_runs_met eq1) jk_runs_g_X1 jk_runs_d (As := [.int x1, .int (nI 1)]) (Nat.le_of_ble_eq_true rfl) (Nat.le_of_ble_eq_true rfl) hP hS (ci := 4) jf_o5 rfl hl.1 rfl rfl (lv_room (Nat.le_of_ble_eq_true rfl)) dX1_step_6 (fun H locs hP hS => ?_)
  refine lv_iload_n hx hb dX1_step_9 rfl (lv_at hl 2 rfl) ?_
  refine lv_iconst hx hb dX1_step_10 jx_ki0 ?_
  refine lv_aload_n hx hb dX1_step_11 rfl (lv_at hl 0 rfl) ?_
  refine jf_get hx hb hts in_X1 hown hV hP (ci := 1) (k := 3) jf_o0 rfl (by decide) (hts _ q457) rfl rfl dX1_step_12 ?_
  refine jf_getN hx hb hts in_X5 hown hV hP (ci := 4) (k := 10) jf_o5 rfl (by decide) (jf_l_X1_199 hV.2.2.1) rfl rfl dX1_step_15 ?_
  refine lv_iconst hx hb dX1_step_18 jx_ki1 ?_
  refine lv_isub hx hb dX1_step_19 ?_
  obtain ⟨q2, eq2, h⟩ := jx_bi_some h
  refine jx_callSi hx hb hml hown hts (jf_isIn_met eq2) jf_isIn_g_X1 jf_isIn_d (As := [.int x2, .int (nI 0), .int ((q1.1 5 10) - (nI 1))]) (⟨Nat.le_trans (Nat.le_of_ble_eq_true rfl) hlv.1, Nat.le_trans (Nat.le_of_ble_eq_true rfl) hlv.2⟩) hl.1 rfl rfl (lv_room (Nat.le_of_ble_eq_true rfl)) dX1_step_20 ⟨Nat.zero_le _, Nat.zero_le _⟩ ?_
  refine lv_if_eq (tgt := 38) hx hb dX1_step_23 rfl (fun c3 => ?_) (fun c3 => ?_)
  · rw [if_pos c3] at h
    refine lv_iconst hx hb dX1_step_38 jx_kim1 ?_
    exact jf_iret hx hb hr hlk hV hP hS h dX1_step_39
  · rw [if_neg c3] at h
    refine lv_aload_n hx hb dX1_step_26 rfl (lv_at hl 0 rfl) ?_
    refine jf_get hx hb hts in_X1 hown hV hP (ci := 1) (k := 3) jf_o0 rfl (by decide) (hts _ q457) rfl rfl dX1_step_27 ?_
    refine jf_getN hx hb hts in_X5 hown hV hP (ci := 4) (k := 6) jf_o5 rfl (by decide) (jf_l_X1_219 hV.2.2.1) rfl rfl dX1_step_30 ?_
    refine lv_iload_n hx hb dX1_step_33 rfl (lv_at hl 2 rfl) ?_
    obtain ⟨j4, ej4, bj4, h⟩ := jx_ga_some h
    refine jf_iald hx hb hV hP jf_a5_6 ej4 bj4 dX1_step_34 ?_
    refine lv_goto (tgt := 39) hx hb dX1_step_35 rfl ?_
    exact jf_iret hx hb hr hlk hV hP hS h dX1_step_39
theorem jf_step_met {l : Launch} {D : va_G} {E : jf_E} {A : Nat → Prop} {fo : Nat → Nat → Option Nat} {pl : va_W} {F : Nat} {x1 : Int32} {x2 : Int32} {S : jf_S} {out : Int32 × jf_S} (h : jf_step F x1 x2 S = some out) : jf_Mi l D E A fo pl yX1_step cX1_step 3 (some .int) 8 [.ref (E.1 0), .int x1, .int x2] S out :=
  jf_Mi_of (own := RX1) ⟨by decide, rfl, Nat.le_of_ble_eq_true rfl⟩ (fun hX => jf_step_ok hX F x1 x2 S h)
theorem jf_said_d : yX1_said.cls = RX1 ∧ yX1_said.cls ≠ "java/lang/invoke/MethodHandle" ∧ yX1_said.cls ≠ "java/lang/invoke/VarHandle" ∧ (parseMethodDescriptor yX1_said.desc).map (fun d => d.parameters.length) = some 2 := by decide +kernel
theorem jf_said_ok {out : Int32 × jf_S} (hX : jf_Ok RX1 p R s m args meth c A D E cX1_said 3 (some .int) 8) (F : Nat) (x1 : Int32) (x2 : Int32) (S : jf_S) (h : jf_said F x1 x2 S = some out) : jf_J p l e R s m args below meth c A D E fo pl 3 (jf_Qi below args s A D E fo pl out) 0 [(0, .ref (E.1 0)), (1, .int x1), (2, .int x2)] [] S := by
  intro H locs ls hP hS hl
  have hX0 := hX
  obtain ⟨hx, hb, hml, hown, hts, hlk, hr, hlv, hV, het⟩ := hX0
  unfold jf_said at h
  refine lv_aload_n hx hb dX1_said_0 rfl (lv_at hl 0 rfl) ?_
  refine jf_get hx hb hts in_X1 hown hV hP (ci := 1) (k := 3) jf_o0 rfl (by decide) (hts _ q457) rfl rfl dX1_said_1 ?_
  refine lv_iload_n hx hb dX1_said_4 rfl (lv_at hl 1 rfl) ?_
  refine lv_iconst hx hb dX1_said_5 jx_ki1 ?_
  obtain ⟨q1, eq1, h⟩ := jx_bi_some h
  refine jf_callV hx hb hml hown hts hlv hV (jk_runs_met eq1) jk_runs_g_X1 jk_runs_d (As := [.int x1, .int (nI 1)]) (Nat.le_of_ble_eq_true rfl) (Nat.le_of_ble_eq_true rfl) hP hS (ci := 4) jf_o5 rfl hl.1 rfl rfl (lv_room (Nat.le_of_ble_eq_true rfl)) dX1_said_6 (fun H locs hP hS => ?_)
  refine lv_iload_n hx hb dX1_said_9 rfl (lv_at hl 2 rfl) ?_
  refine lv_iconst hx hb dX1_said_10 jx_ki0 ?_
  refine lv_aload_n hx hb dX1_said_11 rfl (lv_at hl 0 rfl) ?_
  refine jf_get hx hb hts in_X1 hown hV hP (ci := 1) (k := 3) jf_o0 rfl (by decide) (hts _ q457) rfl rfl dX1_said_12 ?_
  refine jf_getN hx hb hts in_X5 hown hV hP (ci := 4) (k := 12) jf_o5 rfl (by decide) (jf_l_X1_207 hV.2.2.1) rfl rfl dX1_said_15 ?_
  refine lv_iconst hx hb dX1_said_18 jx_ki1 ?_
  refine lv_isub hx hb dX1_said_19 ?_
  obtain ⟨q2, eq2, h⟩ := jx_bi_some h
  refine jx_callSi hx hb hml hown hts (jf_isIn_met eq2) jf_isIn_g_X1 jf_isIn_d (As := [.int x2, .int (nI 0), .int ((q1.1 5 12) - (nI 1))]) (⟨Nat.le_trans (Nat.le_of_ble_eq_true rfl) hlv.1, Nat.le_trans (Nat.le_of_ble_eq_true rfl) hlv.2⟩) hl.1 rfl rfl (lv_room (Nat.le_of_ble_eq_true rfl)) dX1_said_20 ⟨Nat.zero_le _, Nat.zero_le _⟩ ?_
  refine lv_if_eq (tgt := 38) hx hb dX1_said_23 rfl (fun c3 => ?_) (fun c3 => ?_)
  · rw [if_pos c3] at h
    refine lv_ldc hx hb hown (hts _ q686) dX1_said_38 ?_
    exact jf_iret hx hb hr hlk hV hP hS h dX1_said_40
  · rw [if_neg c3] at h
    refine lv_aload_n hx hb dX1_said_26 rfl (lv_at hl 0 rfl) ?_
    refine jf_get hx hb hts in_X1 hown hV hP (ci := 1) (k := 3) jf_o0 rfl (by decide) (hts _ q457) rfl rfl dX1_said_27 ?_
    refine jf_getN hx hb hts in_X5 hown hV hP (ci := 4) (k := 7) jf_o5 rfl (by decide) (jf_l_X1_222 hV.2.2.1) rfl rfl dX1_said_30 ?_
    refine lv_iload_n hx hb dX1_said_33 rfl (lv_at hl 2 rfl) ?_
    obtain ⟨j4, ej4, bj4, h⟩ := jx_ga_some h
    refine jf_iald hx hb hV hP jf_a5_7 ej4 bj4 dX1_said_34 ?_
    refine lv_goto (tgt := 40) hx hb dX1_said_35 rfl ?_
    exact jf_iret hx hb hr hlk hV hP hS h dX1_said_40
theorem jf_said_met {l : Launch} {D : va_G} {E : jf_E} {A : Nat → Prop} {fo : Nat → Nat → Option Nat} {pl : va_W} {F : Nat} {x1 : Int32} {x2 : Int32} {S : jf_S} {out : Int32 × jf_S} (h : jf_said F x1 x2 S = some out) : jf_Mi l D E A fo pl yX1_said cX1_said 3 (some .int) 8 [.ref (E.1 0), .int x1, .int x2] S out :=
  jf_Mi_of (own := RX1) ⟨by decide, rfl, Nat.le_of_ble_eq_true rfl⟩ (fun hX => jf_said_ok hX F x1 x2 S h)
theorem jo8_isJump_d : yX8_isJump.cls = RX8 ∧ yX8_isJump.cls ≠ "java/lang/invoke/MethodHandle" ∧ yX8_isJump.cls ≠ "java/lang/invoke/VarHandle" ∧ (parseMethodDescriptor yX8_isJump.desc).map (fun d => d.parameters.length) = some 0 := by decide +kernel
theorem jo8_isJump_ok {out : Int32 × jf_S} (hX : jf_Ok RX8 p R s m args meth c A D E cX8_isJump 1 (some .boolean) 0) (F : Nat) (x0 : jo_R) {x0a : Nat} (S : jf_S) (h : jo8_isJump F x0 S = some out) : jf_J p l e R s m args below meth c A D E fo pl 1 (jf_Qi below args s A D E fo pl out) 0 [(0, .ref x0a)] [] S := by
  intro H locs ls hP hS hl
  have hX0 := hX
  obtain ⟨hx, hb, hml, hown, hts, hlk, hr, hlv, hV, het⟩ := hX0
  unfold jo8_isJump at h
  refine lv_iconst hx hb dX8_isJump_0 jx_ki0 ?_
  exact jf_zret hx hb hr hlk hV hP hS jx_nz0 h dX8_isJump_1
theorem jo8_isJump_met {l : Launch} {D : va_G} {E : jf_E} {A : Nat → Prop} {fo : Nat → Nat → Option Nat} {pl : va_W} {F : Nat} {x0 : jo_R} {x0a : Nat} {S : jf_S} {out : Int32 × jf_S} (h : jo8_isJump F x0 S = some out) : jf_Mi l D E A fo pl yX8_isJump cX8_isJump 1 (some .boolean) 0 [.ref x0a] S out :=
  jf_Mi_of (own := RX8) ⟨by decide, rfl, Nat.le_of_ble_eq_true rfl⟩ (fun hX => jo8_isJump_ok hX F x0 S h)
theorem jo13_isJump_d : yX13_isJump.cls = RX13 ∧ yX13_isJump.cls ≠ "java/lang/invoke/MethodHandle" ∧ yX13_isJump.cls ≠ "java/lang/invoke/VarHandle" ∧ (parseMethodDescriptor yX13_isJump.desc).map (fun d => d.parameters.length) = some 0 := by decide +kernel
theorem jo13_isJump_ok {out : Int32 × jf_S} (hX : jf_Ok RX13 p R s m args meth c A D E cX13_isJump 1 (some .boolean) 0) (F : Nat) (x0 : jo_R) {x0a : Nat} (x0h : jo_mT pl x0a x0) (S : jf_S) (h : jo13_isJump F x0 S = some out) : jf_J p l e R s m args below meth c A D E fo pl 1 (jf_Qi below args s A D E fo pl out) 0 [(0, .ref x0a)] [] S := by
  intro H locs ls hP hS hl
  have hX0 := hX
  obtain ⟨hx, hb, hml, hown, hts, hlk, hr, hlv, hV, het⟩ := hX0
  unfold jo13_isJump at h
  refine lv_iconst hx hb dX13_isJump_0 jx_ki1 ?_
  exact jf_zret hx hb hr hlk hV hP hS jx_nz1 h dX13_isJump_1
theorem jo13_isJump_met {l : Launch} {D : va_G} {E : jf_E} {A : Nat → Prop} {fo : Nat → Nat → Option Nat} {pl : va_W} {F : Nat} {x0 : jo_R} {x0a : Nat} (x0h : jo_mT pl x0a x0) {S : jf_S} {out : Int32 × jf_S} (h : jo13_isJump F x0 S = some out) : jf_Mi l D E A fo pl yX13_isJump cX13_isJump 1 (some .boolean) 0 [.ref x0a] S out :=
  jf_Mi_of (own := RX13) ⟨by decide, rfl, Nat.le_of_ble_eq_true rfl⟩ (fun hX => jo13_isJump_ok hX F x0 x0h S h)
theorem jo16_isJump_d : yX16_isJump.cls = RX16 ∧ yX16_isJump.cls ≠ "java/lang/invoke/MethodHandle" ∧ yX16_isJump.cls ≠ "java/lang/invoke/VarHandle" ∧ (parseMethodDescriptor yX16_isJump.desc).map (fun d => d.parameters.length) = some 0 := by decide +kernel
theorem jo16_isJump_ok {out : Int32 × jf_S} (hX : jf_Ok RX16 p R s m args meth c A D E cX16_isJump 1 (some .boolean) 0) (F : Nat) (x0 : jo_R) {x0a : Nat} (x0h : jo_m7 pl x0a x0) (S : jf_S) (h : jo16_isJump F x0 S = some out) : jf_J p l e R s m args below meth c A D E fo pl 1 (jf_Qi below args s A D E fo pl out) 0 [(0, .ref x0a)] [] S := by
  intro H locs ls hP hS hl
  have hX0 := hX
  obtain ⟨hx, hb, hml, hown, hts, hlk, hr, hlv, hV, het⟩ := hX0
  unfold jo16_isJump at h
  refine lv_iconst hx hb dX16_isJump_0 jx_ki1 ?_
  exact jf_zret hx hb hr hlk hV hP hS jx_nz1 h dX16_isJump_1
theorem jo16_isJump_met {l : Launch} {D : va_G} {E : jf_E} {A : Nat → Prop} {fo : Nat → Nat → Option Nat} {pl : va_W} {F : Nat} {x0 : jo_R} {x0a : Nat} (x0h : jo_m7 pl x0a x0) {S : jf_S} {out : Int32 × jf_S} (h : jo16_isJump F x0 S = some out) : jf_Mi l D E A fo pl yX16_isJump cX16_isJump 1 (some .boolean) 0 [.ref x0a] S out :=
  jf_Mi_of (own := RX16) ⟨by decide, rfl, Nat.le_of_ble_eq_true rfl⟩ (fun hX => jo16_isJump_ok hX F x0 x0h S h)
theorem jv_isJump_X1 {F nL lv a : Nat} {r : jo_R}  {out : Int32 × jf_S} {stk : List Value} (hx : p.tables.exec = Jvm.exec) (hb : c.code = cc) (hml : c.maxLocals = nL) (hown : s.vm.findClass RX1 = some m.cls) (hts : ∀ w ∈ lw_all, w.before args s = true) (hlv : jx_hr R lv) (hV : jf_V D E A s) (hi : jo_Is pl a r) (e1 : jv_isJump F r  S = some out) (h1 : 0 + 1 ≤ lv) (hP : jf_P D E A S fo pl H) (hS : va_S A s.heap H locs) (hls : ls.size = nL) (_ : (1 : Nat) = 1) (hst : stk = ([] : List Value).reverse ++ .ref a :: rest) (hW : 2 * (F0 m pc ls stk).monitorRoom + (rest.map fun v => v.category).sum ≤ 8) (hdg : decode cc pc = .ok (.invokevirtual 89, 3))
    (kk : ∀ (H : Heap) (locs : List Loc), jf_P D E A out.2 fo pl H → va_S A s.heap H locs → W p l e R s m args below meth c H locs 0 0 Q (F0 m (pc + 3) ls (.int out.1 :: rest))) : W p l e R s m args below meth c H locs 0 0 Q (F0 m pc ls stk) := by
  obtain ⟨hv1, hv2⟩ := hlv
  rcases hi with ⟨e0, h0⟩ | ⟨e0, h0⟩ | ⟨e0, h0⟩ | ⟨e0, h0⟩ | ⟨e0, h0⟩ | ⟨e0, h0⟩ | ⟨e0, h0⟩ | ⟨e0, h0⟩ | ⟨e0, h0⟩ | ⟨e0, h0⟩
  · rw [jv_isJump, if_pos e0] at e1
    obtain ⟨q0, _, _, hq, -, -⟩ := jo_f0 (E := E) (S := S) (fo := fo) h0
    exact jf_vcallI hx hb hml hown hts hV (jo8_isJump_met (x0a := a) e1) (va_cwO (x := ⟨"JumpFence$Order", "isJump", "()Z"⟩) (owner := "JumpFence$Order") 0 hts (jf_lwO q695 q697 q696 q709 q696 q116 q712) rfl rfl rfl q712 (by decide +kernel) ⟨by show 0 + 1 ≤ R.frames; omega, by show 8 + (1 + 11) + 40 * 0 ≤ R.locals; omega⟩) hP hS (ci := 6) hq rfl hls rfl hst hW hdg kk
  · rw [jv_isJump, if_neg (by rw [e0]; decide), if_pos e0] at e1
    obtain ⟨q0, hq⟩ := jf_pool (E := E) (S := S) (fo := fo) h0
    exact jf_vcallI hx hb hml hown hts hV (jo8_isJump_met (x0a := a) e1) (va_cwO (x := ⟨"JumpFence$Order", "isJump", "()Z"⟩) (owner := "JumpFence$Order") 0 hts (jf_lwO q695 q697 q696 q708 q696 q116 q712) rfl rfl rfl q712 (by decide +kernel) ⟨by show 0 + 1 ≤ R.frames; omega, by show 8 + (1 + 11) + 40 * 0 ≤ R.locals; omega⟩) hP hS (ci := 7) hq rfl hls rfl hst hW hdg kk
  · rw [jv_isJump, if_neg (by rw [e0]; decide), if_neg (by rw [e0]; decide), if_pos e0] at e1
    obtain ⟨q0, hq⟩ := jf_pool (E := E) (S := S) (fo := fo) h0
    exact jf_vcallI hx hb hml hown hts hV (jo8_isJump_met (x0a := a) e1) (va_cwO (x := ⟨"JumpFence$Order", "isJump", "()Z"⟩) (owner := "JumpFence$Order") 0 hts (jf_lwO q695 q697 q696 q707 q696 q116 q712) rfl rfl rfl q712 (by decide +kernel) ⟨by show 0 + 1 ≤ R.frames; omega, by show 8 + (1 + 11) + 40 * 0 ≤ R.locals; omega⟩) hP hS (ci := 8) hq rfl hls rfl hst hW hdg kk
  · rw [jv_isJump, if_neg (by rw [e0]; decide), if_neg (by rw [e0]; decide), if_neg (by rw [e0]; decide), if_pos e0] at e1
    obtain ⟨q0, _, _, hq, -, -⟩ := jo_f3 (E := E) (S := S) (fo := fo) h0
    exact jf_vcallI hx hb hml hown hts hV (jo8_isJump_met (x0a := a) e1) (va_cwO (x := ⟨"JumpFence$Order", "isJump", "()Z"⟩) (owner := "JumpFence$Order") 0 hts (jf_lwO q695 q697 q696 q706 q696 q116 q712) rfl rfl rfl q712 (by decide +kernel) ⟨by show 0 + 1 ≤ R.frames; omega, by show 8 + (1 + 11) + 40 * 0 ≤ R.locals; omega⟩) hP hS (ci := 9) hq rfl hls rfl hst hW hdg kk
  · rw [jv_isJump, if_neg (by rw [e0]; decide), if_neg (by rw [e0]; decide), if_neg (by rw [e0]; decide), if_neg (by rw [e0]; decide), if_pos e0] at e1
    obtain ⟨q0, hq⟩ := jf_pool (E := E) (S := S) (fo := fo) h0
    exact jf_vcallI hx hb hml hown hts hV (jo13_isJump_met (Or.inl h0) e1) (va_cwO (x := ⟨"JumpFence$Order", "isJump", "()Z"⟩) (owner := "JumpFence$Order") 0 hts (jf_lwO q695 q697 q696 q711 q702 q121 q703) rfl rfl rfl q712 (by decide +kernel) ⟨by show 0 + 1 ≤ R.frames; omega, by show 8 + (1 + 11) + 40 * 0 ≤ R.locals; omega⟩) hP hS (ci := 10) hq rfl hls rfl hst hW hdg kk
  · rw [jv_isJump, if_neg (by rw [e0]; decide), if_neg (by rw [e0]; decide), if_neg (by rw [e0]; decide), if_neg (by rw [e0]; decide), if_neg (by rw [e0]; decide), if_pos e0] at e1
    obtain ⟨q0, hq⟩ := jf_pool (E := E) (S := S) (fo := fo) h0
    exact jf_vcallI hx hb hml hown hts hV (jo8_isJump_met (x0a := a) e1) (va_cwO (x := ⟨"JumpFence$Order", "isJump", "()Z"⟩) (owner := "JumpFence$Order") 0 hts (jf_lwO q695 q697 q696 q704 q696 q116 q712) rfl rfl rfl q712 (by decide +kernel) ⟨by show 0 + 1 ≤ R.frames; omega, by show 8 + (1 + 11) + 40 * 0 ≤ R.locals; omega⟩) hP hS (ci := 11) hq rfl hls rfl hst hW hdg kk
  · rw [jv_isJump, if_neg (by rw [e0]; decide), if_neg (by rw [e0]; decide), if_neg (by rw [e0]; decide), if_neg (by rw [e0]; decide), if_neg (by rw [e0]; decide), if_neg (by rw [e0]; decide), if_pos e0] at e1
    obtain ⟨q0, hq⟩ := jf_pool (E := E) (S := S) (fo := fo) h0
    exact jf_vcallI hx hb hml hown hts hV (jo13_isJump_met (Or.inr h0) e1) (va_cwO (x := ⟨"JumpFence$Order", "isJump", "()Z"⟩) (owner := "JumpFence$Order") 0 hts (jf_lwO q695 q697 q696 q701 q702 q121 q703) rfl rfl rfl q712 (by decide +kernel) ⟨by show 0 + 1 ≤ R.frames; omega, by show 8 + (1 + 11) + 40 * 0 ≤ R.locals; omega⟩) hP hS (ci := 12) hq rfl hls rfl hst hW hdg kk
  · rw [jv_isJump, if_neg (by rw [e0]; decide), if_neg (by rw [e0]; decide), if_neg (by rw [e0]; decide), if_neg (by rw [e0]; decide), if_neg (by rw [e0]; decide), if_neg (by rw [e0]; decide), if_neg (by rw [e0]; decide), if_pos e0] at e1
    obtain ⟨q0, hq⟩ := jf_pool (E := E) (S := S) (fo := fo) h0
    exact jf_vcallI hx hb hml hown hts hV (jo16_isJump_met h0 e1) (va_cwO (x := ⟨"JumpFence$Order", "isJump", "()Z"⟩) (owner := "JumpFence$Order") 0 hts (jf_lwO q695 q697 q696 q698 q699 q124 q700) rfl rfl rfl q712 (by decide +kernel) ⟨by show 0 + 1 ≤ R.frames; omega, by show 8 + (1 + 11) + 40 * 0 ≤ R.locals; omega⟩) hP hS (ci := 13) hq rfl hls rfl hst hW hdg kk
  · rw [jv_isJump, if_neg (by rw [e0]; decide), if_neg (by rw [e0]; decide), if_neg (by rw [e0]; decide), if_neg (by rw [e0]; decide), if_neg (by rw [e0]; decide), if_neg (by rw [e0]; decide), if_neg (by rw [e0]; decide), if_neg (by rw [e0]; decide), if_pos e0] at e1
    obtain ⟨q0, _, hq, -⟩ := jo_f8 (E := E) (S := S) (fo := fo) h0
    exact jf_vcallI hx hb hml hown hts hV (jo8_isJump_met (x0a := a) e1) (va_cwO (x := ⟨"JumpFence$Order", "isJump", "()Z"⟩) (owner := "JumpFence$Order") 0 hts (jf_lwO q695 q697 q696 q705 q696 q116 q712) rfl rfl rfl q712 (by decide +kernel) ⟨by show 0 + 1 ≤ R.frames; omega, by show 8 + (1 + 11) + 40 * 0 ≤ R.locals; omega⟩) hP hS (ci := 14) hq rfl hls rfl hst hW hdg kk
  · rw [jv_isJump, if_neg (by rw [e0]; decide), if_neg (by rw [e0]; decide), if_neg (by rw [e0]; decide), if_neg (by rw [e0]; decide), if_neg (by rw [e0]; decide), if_neg (by rw [e0]; decide), if_neg (by rw [e0]; decide), if_neg (by rw [e0]; decide), if_neg (by rw [e0]; decide), if_pos e0] at e1
    obtain ⟨q0, hq⟩ := jf_pool (E := E) (S := S) (fo := fo) h0
    exact jf_vcallI hx hb hml hown hts hV (jo8_isJump_met (x0a := a) e1) (va_cwO (x := ⟨"JumpFence$Order", "isJump", "()Z"⟩) (owner := "JumpFence$Order") 0 hts (jf_lwO q695 q697 q696 q710 q696 q116 q712) rfl rfl rfl q712 (by decide +kernel) ⟨by show 0 + 1 ≤ R.frames; omega, by show 8 + (1 + 11) + 40 * 0 ≤ R.locals; omega⟩) hP hS (ci := 15) hq rfl hls rfl hst hW hdg kk
theorem jf_isGuarded_g_X1 : GoodIn lw_all (wsV RX1 351 RX1 yX1_isGuarded (ws_ yX1_isGuarded cX1_isGuarded 2 (some .boolean))) := lw_V q691 q693 qs4 q102 q694
theorem jf_isGuarded_d : yX1_isGuarded.cls = RX1 ∧ yX1_isGuarded.cls ≠ "java/lang/invoke/MethodHandle" ∧ yX1_isGuarded.cls ≠ "java/lang/invoke/VarHandle" ∧ (parseMethodDescriptor yX1_isGuarded.desc).map (fun d => d.parameters.length) = some 1 := by decide +kernel
theorem jf_isGuarded_ok {out : Int32 × jf_S} (hX : jf_Ok RX1 p R s m args meth c A D E cX1_isGuarded 2 (some .boolean) 1) (F : Nat) (x1 : Int32) (S : jf_S) (h : jf_isGuarded F x1 S = some out) : jf_J p l e R s m args below meth c A D E fo pl 2 (jf_Qi below args s A D E fo pl out) 0 [(0, .ref (E.1 0)), (1, .int x1)] [] S := by
  intro H locs ls hP hS hl
  have hX0 := hX
  obtain ⟨hx, hb, hml, hown, hts, hlk, hr, hlv, hV, het⟩ := hX0
  unfold jf_isGuarded at h
  refine lv_aload_n hx hb dX1_isGuarded_0 rfl (lv_at hl 0 rfl) ?_
  refine jf_get hx hb hts in_X1 hown hV hP (ci := 1) (k := 1) jf_o0 rfl (by decide) (hts _ q455) rfl rfl dX1_isGuarded_1 ?_
  refine jf_getN hx hb hts in_X4 hown hV hP (ci := 3) (k := 0) (jf_oP (Or.inl rfl)) rfl (by decide) (jf_l_X1_81 hV.2.2.1) rfl rfl dX1_isGuarded_4 ?_
  refine lv_iload_n hx hb dX1_isGuarded_7 rfl (lv_at hl 1 rfl) ?_
  obtain ⟨j1, ej1, bj1, h⟩ := jx_ga_some h
  obtain ⟨r2, er2, h⟩ := jx_bi_some h
  refine jf_qald hx hb hV hP (jf_aP0 (Or.inl rfl)) ej1 bj1 er2 dX1_isGuarded_8 (fun r2a r2h => ?_)
  obtain ⟨q3, eq3, h⟩ := jx_bi_some h
  refine jv_isJump_X1 hx hb hml hown hts hlv hV r2h eq3 (Nat.le_of_ble_eq_true rfl) hP hS hl.1 rfl rfl (lv_room (Nat.le_of_ble_eq_true rfl)) dX1_isGuarded_9 (fun H locs hP hS => ?_)
  refine lv_if_eq (tgt := 31) hx hb dX1_isGuarded_12 rfl (fun c4 => ?_) (fun c4 => ?_)
  · rw [if_pos c4] at h
    refine lv_iconst hx hb dX1_isGuarded_31 jx_ki0 ?_
    exact jf_zret hx hb hr hlk hV hP hS jx_nz0 h dX1_isGuarded_32
  · rw [if_neg c4] at h
    refine lv_aload_n hx hb dX1_isGuarded_15 rfl (lv_at hl 0 rfl) ?_
    refine jf_get hx hb hts in_X1 hown hV hP (ci := 1) (k := 1) jf_o0 rfl (by decide) (hts _ q455) rfl rfl dX1_isGuarded_16 ?_
    refine jf_getN hx hb hts in_X4 hown hV hP (ci := 3) (k := 1) (jf_oP (Or.inl rfl)) rfl (by decide) (jf_l_X1_128 hV.2.2.1) rfl rfl dX1_isGuarded_19 ?_
    refine lv_iload_n hx hb dX1_isGuarded_22 rfl (lv_at hl 1 rfl) ?_
    obtain ⟨j5, ej5, bj5, h⟩ := jx_ga_some h
    refine jf_iald hx hb hV hP (jf_aP1 (Or.inl rfl)) ej5 bj5 dX1_isGuarded_23 ?_
    refine lv_if_le (tgt := 31) hx hb dX1_isGuarded_24 rfl (fun c6 => ?_) (fun c6 => ?_)
    · rw [if_pos c6] at h
      refine lv_iconst hx hb dX1_isGuarded_31 jx_ki0 ?_
      exact jf_zret hx hb hr hlk hV hP hS jx_nz0 h dX1_isGuarded_32
    · rw [if_neg c6] at h
      refine lv_iconst hx hb dX1_isGuarded_27 jx_ki1 ?_
      refine lv_goto (tgt := 32) hx hb dX1_isGuarded_28 rfl ?_
      exact jf_zret hx hb hr hlk hV hP hS jx_nz1 h dX1_isGuarded_32
theorem jf_isGuarded_met {l : Launch} {D : va_G} {E : jf_E} {A : Nat → Prop} {fo : Nat → Nat → Option Nat} {pl : va_W} {F : Nat} {x1 : Int32} {S : jf_S} {out : Int32 × jf_S} (h : jf_isGuarded F x1 S = some out) : jf_Mi l D E A fo pl yX1_isGuarded cX1_isGuarded 2 (some .boolean) 1 [.ref (E.1 0), .int x1] S out :=
  jf_Mi_of (own := RX1) ⟨by decide, rfl, Nat.le_of_ble_eq_true rfl⟩ (fun hX => jf_isGuarded_ok hX F x1 S h)
theorem jf_letsOf_g_X1 : GoodIn lw_all (wsV RX1 358 RX1 yX1_letsOf (ws_ yX1_letsOf cX1_letsOf 2 (some .long))) := lw_V q716 q718 qs5 q102 q719
theorem jf_letsOf_d : yX1_letsOf.cls = RX1 ∧ yX1_letsOf.cls ≠ "java/lang/invoke/MethodHandle" ∧ yX1_letsOf.cls ≠ "java/lang/invoke/VarHandle" ∧ (parseMethodDescriptor yX1_letsOf.desc).map (fun d => d.parameters.length) = some 1 := by decide +kernel
theorem jf_letsOf_ok {out : Int64 × jf_S} (hX : jf_Ok RX1 p R s m args meth c A D E cX1_letsOf 2 (some .long) 2) (F : Nat) (x1 : Int32) (S : jf_S) (h : jf_letsOf F x1 S = some out) : jf_J p l e R s m args below meth c A D E fo pl 2 (jf_Ql below args s A D E fo pl out) 0 [(0, .ref (E.1 0)), (1, .int x1)] [] S := by
  intro H locs ls hP hS hl
  have hX0 := hX
  obtain ⟨hx, hb, hml, hown, hts, hlk, hr, hlv, hV, het⟩ := hX0
  unfold jf_letsOf at h
  refine lv_aload_n hx hb dX1_letsOf_0 rfl (lv_at hl 0 rfl) ?_
  refine jf_get hx hb hts in_X1 hown hV hP (ci := 1) (k := 1) jf_o0 rfl (by decide) (hts _ q455) rfl rfl dX1_letsOf_1 ?_
  refine lv_iload_n hx hb dX1_letsOf_4 rfl (lv_at hl 1 rfl) ?_
  refine lv_aload_n hx hb dX1_letsOf_5 rfl (lv_at hl 0 rfl) ?_
  refine jf_get hx hb hts in_X1 hown hV hP (ci := 1) (k := 1) jf_o0 rfl (by decide) (hts _ q455) rfl rfl dX1_letsOf_6 ?_
  refine jf_getN hx hb hts in_X4 hown hV hP (ci := 3) (k := 1) (jf_oP (Or.inl rfl)) rfl (by decide) (jf_l_X1_128 hV.2.2.1) rfl rfl dX1_letsOf_9 ?_
  refine lv_iload_n hx hb dX1_letsOf_12 rfl (lv_at hl 1 rfl) ?_
  obtain ⟨j1, ej1, bj1, h⟩ := jx_ga_some h
  refine jf_iald hx hb hV hP (jf_aP1 (Or.inl rfl)) ej1 bj1 dX1_letsOf_13 ?_
  obtain ⟨q2, eq2, h⟩ := jx_bi_some h
  refine jf_callL hx hb hml hown hts hlv hV (jp_lets_met (Or.inl rfl) eq2) jp_lets_g_X1 jp_lets_d (As := [.int x1, .int (S.2.2.1 3 1 j1)]) (Nat.le_of_ble_eq_true rfl) (Nat.le_of_ble_eq_true rfl) hP hS (ci := 3) (jf_oP (Or.inl rfl)) rfl hl.1 rfl rfl (lv_room (Nat.le_of_ble_eq_true rfl)) dX1_letsOf_14 (fun H locs hP hS => ?_)
  exact jf_lret hx hb hr hlk hV hP hS h dX1_letsOf_17
theorem jf_letsOf_met {l : Launch} {D : va_G} {E : jf_E} {A : Nat → Prop} {fo : Nat → Nat → Option Nat} {pl : va_W} {F : Nat} {x1 : Int32} {S : jf_S} {out : Int64 × jf_S} (h : jf_letsOf F x1 S = some out) : jf_Ml l D E A fo pl yX1_letsOf cX1_letsOf 2 (some .long) 2 [.ref (E.1 0), .int x1] S out :=
  jf_Ml_of (own := RX1) ⟨by decide, rfl, Nat.le_of_ble_eq_true rfl⟩ (fun hX => jf_letsOf_ok hX F x1 S h)
theorem jf_marks_d : yX1_marks.cls = RX1 ∧ yX1_marks.cls ≠ "java/lang/invoke/MethodHandle" ∧ yX1_marks.cls ≠ "java/lang/invoke/VarHandle" ∧ (parseMethodDescriptor yX1_marks.desc).map (fun d => d.parameters.length) = some 0 := by decide +kernel
theorem jf_marks_b148_ok {out : Int32 × jf_S} (hX : jf_Ok RX1 p R s m args meth c A D E cX1_marks 11 (some .int) 3) (F : Nat) {r7 : Int32 × Int64 × Int32 × jf_S → Option (Int32 × jf_S)} (hr7 : ∀ a, r7 a = some out → jf_J p l e R s m args below meth c A D E fo pl 11 (jf_Qi below args s A D E fo pl out) 7 [(0, .ref (E.1 0)), (1, .int a.1), (2, .long a.2.1), (4, .int a.2.2.1)] [] a.2.2.2) {r63 : Int32 × Int64 × Int32 × Int64 × Int64 × Int32 × jf_S → Option (Int32 × jf_S)} (hr63 : ∀ a, r63 a = some out → jf_J p l e R s m args below meth c A D E fo pl 11 (jf_Qi below args s A D E fo pl out) 63 [(0, .ref (E.1 0)), (1, .int a.1), (2, .long a.2.1), (4, .int a.2.2.1), (5, .long a.2.2.2.1), (7, .long a.2.2.2.2.1), (9, .int a.2.2.2.2.2.1)] [] a.2.2.2.2.2.2) {r74 : Int32 × Int64 × Int32 × Int64 × Int64 × Int32 × Int32 × jf_S → Option (Int32 × jf_S)} (hr74 : ∀ a, r74 a = some out → jf_J p l e R s m args below meth c A D E fo pl 11 (jf_Qi below args s A D E fo pl out) 74 [(0, .ref (E.1 0)), (1, .int a.1), (2, .long a.2.1), (4, .int a.2.2.1), (5, .long a.2.2.2.1), (7, .long a.2.2.2.2.1), (9, .int a.2.2.2.2.2.1), (10, .int a.2.2.2.2.2.2.1)] [] a.2.2.2.2.2.2.2) (x1 : Int32) (x2 : Int64) (x4 : Int32) (x5 : Int64) (x7 : Int64) (x9 : Int32) (x10 : Int32) (S : jf_S) (h : jf_marks_b148 F r7 r63 r74 x1 x2 x4 x5 x7 x9 x10 S = some out) : jf_J p l e R s m args below meth c A D E fo pl 11 (jf_Qi below args s A D E fo pl out) 148 [(0, .ref (E.1 0)), (1, .int x1), (2, .long x2), (4, .int x4), (5, .long x5), (7, .long x7), (9, .int x9), (10, .int x10)] [] S := by
  intro H locs ls hP hS hl
  have hX0 := hX
  obtain ⟨hx, hb, hml, hown, hts, hlk, hr, hlv, hV, het⟩ := hX0
  unfold jf_marks_b148 at h
  obtain ⟨y1, ey1, h⟩ := jx_nx_some h
  refine lv_iinc (v := y1) (lv' := [(10, .int y1), (0, .ref (E.1 0)), (1, .int x1), (2, .long x2), (4, .int x4), (5, .long x5), (7, .long x7), (9, .int x9)]) hx hb dX1_marks_148 hl (k := 7) rfl (jx_inc jx_ki1 ey1) (Nat.le_of_ble_eq_true rfl) rfl (fun ls hl => ?_)
  refine lv_goto (tgt := 74) hx hb dX1_marks_151 rfl ?_
  exact hr74 _ h _ _ _ hP hS (lv_sub hl [1, 2, 3, 4, 5, 6, 7, 0] rfl)
theorem jf_marks_L74_ok {out : Int32 × jf_S} (hX : jf_Ok RX1 p R s m args meth c A D E cX1_marks 11 (some .int) 3) (F : Nat) {r7 : Int32 × Int64 × Int32 × jf_S → Option (Int32 × jf_S)} (hr7 : ∀ a, r7 a = some out → jf_J p l e R s m args below meth c A D E fo pl 11 (jf_Qi below args s A D E fo pl out) 7 [(0, .ref (E.1 0)), (1, .int a.1), (2, .long a.2.1), (4, .int a.2.2.1)] [] a.2.2.2) {r63 : Int32 × Int64 × Int32 × Int64 × Int64 × Int32 × jf_S → Option (Int32 × jf_S)} (hr63 : ∀ a, r63 a = some out → jf_J p l e R s m args below meth c A D E fo pl 11 (jf_Qi below args s A D E fo pl out) 63 [(0, .ref (E.1 0)), (1, .int a.1), (2, .long a.2.1), (4, .int a.2.2.1), (5, .long a.2.2.2.1), (7, .long a.2.2.2.2.1), (9, .int a.2.2.2.2.2.1)] [] a.2.2.2.2.2.2) {r74 : Int32 × Int64 × Int32 × Int64 × Int64 × Int32 × Int32 × jf_S → Option (Int32 × jf_S)} (hr74 : ∀ a, r74 a = some out → jf_J p l e R s m args below meth c A D E fo pl 11 (jf_Qi below args s A D E fo pl out) 74 [(0, .ref (E.1 0)), (1, .int a.1), (2, .long a.2.1), (4, .int a.2.2.1), (5, .long a.2.2.2.1), (7, .long a.2.2.2.2.1), (9, .int a.2.2.2.2.2.1), (10, .int a.2.2.2.2.2.2.1)] [] a.2.2.2.2.2.2.2) (x1 : Int32) (x2 : Int64) (x4 : Int32) (x5 : Int64) (x7 : Int64) (x9 : Int32) (x10 : Int32) (S : jf_S) (h : jf_marks_L74 F r7 r63 r74 x1 x2 x4 x5 x7 x9 x10 S = some out) : jf_J p l e R s m args below meth c A D E fo pl 11 (jf_Qi below args s A D E fo pl out) 74 [(0, .ref (E.1 0)), (1, .int x1), (2, .long x2), (4, .int x4), (5, .long x5), (7, .long x7), (9, .int x9), (10, .int x10)] [] S := by
  intro H locs ls hP hS hl
  have hX0 := hX
  obtain ⟨hx, hb, hml, hown, hts, hlk, hr, hlv, hV, het⟩ := hX0
  unfold jf_marks_L74 at h
  refine lv_iload hx hb dX1_marks_74 (lv_at hl 7 rfl) ?_
  refine lv_aload_n hx hb dX1_marks_76 rfl (lv_at hl 0 rfl) ?_
  refine jf_get hx hb hts in_X1 hown hV hP (ci := 1) (k := 1) jf_o0 rfl (by decide) (hts _ q455) rfl rfl dX1_marks_77 ?_
  refine jf_getN hx hb hts in_X4 hown hV hP (ci := 3) (k := 13) (jf_oP (Or.inl rfl)) rfl (by decide) (jf_l_X1_70 hV.2.2.1) rfl rfl dX1_marks_80 ?_
  refine lv_icmp_ge (tgt := 154) hx hb dX1_marks_83 rfl (fun c1 => ?_) (fun c1 => ?_)
  · rw [if_pos c1] at h
    refine lv_goto (tgt := 63) hx hb dX1_marks_154 rfl ?_
    exact hr63 _ h _ _ _ hP hS (lv_sub hl [0, 1, 2, 3, 4, 5, 6] rfl)
  · rw [if_neg c1] at h
    refine lv_aload_n hx hb dX1_marks_86 rfl (lv_at hl 0 rfl) ?_
    refine lv_iload hx hb dX1_marks_87 (lv_at hl 7 rfl) ?_
    obtain ⟨q2, eq2, h⟩ := jx_bi_some h
    refine jf_callI hx hb hml hown hts hlv hV (jf_isGuarded_met eq2) jf_isGuarded_g_X1 jf_isGuarded_d (As := [.int x10]) (Nat.le_of_ble_eq_true rfl) (Nat.le_of_ble_eq_true rfl) hP hS (ci := 1) jf_o0 rfl hl.1 rfl rfl (lv_room (Nat.le_of_ble_eq_true rfl)) dX1_marks_89 (fun H locs hP hS => ?_)
    refine lv_if_eq (tgt := 148) hx hb dX1_marks_92 rfl (fun c3 => ?_) (fun c3 => ?_)
    · rw [if_pos c3] at h
      exact jf_marks_b148_ok hX F hr7 hr63 hr74 _ _ _ _ _ _ _ _ h _ _ _ hP hS hl
    · rw [if_neg c3] at h
      refine lv_lload hx hb dX1_marks_95 (lv_at hl 4 rfl) ?_
      refine lv_iload hx hb dX1_marks_97 (lv_at hl 7 rfl) ?_
      refine lv_lshr hx hb dX1_marks_99 rfl ?_
      refine lv_lconst hx hb dX1_marks_100 jx_kl1 ?_
      refine lv_land hx hb dX1_marks_101 ?_
      refine lv_lconst hx hb dX1_marks_102 jx_kl1 ?_
      refine W.lcmp hx hb dX1_marks_103 ?_
      refine lv_if_eq (tgt := 148) hx hb dX1_marks_104 rfl (fun c4 => ?_) (fun c4 => ?_)
      · rw [if_pos c4] at h
        exact jf_marks_b148_ok hX F hr7 hr63 hr74 _ _ _ _ _ _ _ _ h _ _ _ hP hS hl
      · rw [if_neg c4] at h
        refine lv_aload_n hx hb dX1_marks_107 rfl (lv_at hl 0 rfl) ?_
        refine lv_iload hx hb dX1_marks_108 (lv_at hl 7 rfl) ?_
        obtain ⟨q5, eq5, h⟩ := jx_bi_some h
        refine jf_callL hx hb hml hown hts hlv hV (jf_letsOf_met eq5) jf_letsOf_g_X1 jf_letsOf_d (As := [.int x10]) (Nat.le_of_ble_eq_true rfl) (Nat.le_of_ble_eq_true rfl) hP hS (ci := 1) jf_o0 rfl hl.1 rfl rfl (lv_room (Nat.le_of_ble_eq_true rfl)) dX1_marks_110 (fun H locs hP hS => ?_)
        refine lv_lload hx hb dX1_marks_113 (lv_at hl 5 rfl) ?_
        refine lv_land hx hb dX1_marks_115 ?_
        refine lv_lconst hx hb dX1_marks_116 jx_kl0 ?_
        refine W.lcmp hx hb dX1_marks_117 ?_
        refine lv_if_ne (tgt := 124) hx hb dX1_marks_118 rfl (fun c6 => ?_) (fun c6 => ?_)
        · rw [if_neg c6] at h
          refine lv_lload hx hb dX1_marks_124 (lv_at hl 4 rfl) ?_
          refine lv_iload hx hb dX1_marks_126 (lv_at hl 7 rfl) ?_
          obtain ⟨q7, eq7, h⟩ := jx_bi_some h
          refine jx_callSl hx hb hml hown hts (jf_bit_met eq7) jf_bit_g_X1 jf_bit_d (As := [.int x10]) (⟨Nat.le_trans (Nat.le_of_ble_eq_true rfl) hlv.1, Nat.le_trans (Nat.le_of_ble_eq_true rfl) hlv.2⟩) hl.1 rfl rfl (lv_room (Nat.le_of_ble_eq_true rfl)) dX1_marks_128 ⟨Nat.zero_le _, Nat.zero_le _⟩ ?_
          refine lv_lor hx hb dX1_marks_131 ?_
          obtain ⟨y8, ey8, h⟩ := jx_nx_some h
          refine jx_topl ey8 ?_
          refine lv_lstore (lv' := [(5, .long y8), (0, .ref (E.1 0)), (1, .int x1), (2, .long x2), (4, .int x4), (7, .long x7), (9, .int x9), (10, .int x10)]) hx hb dX1_marks_132 hl (Nat.le_of_ble_eq_true rfl) rfl (fun ls hl => ?_)
          refine lv_lload hx hb dX1_marks_134 (lv_at hl 5 rfl) ?_
          refine lv_aload_n hx hb dX1_marks_136 rfl (lv_at hl 1 rfl) ?_
          refine lv_iload hx hb dX1_marks_137 (lv_at hl 7 rfl) ?_
          obtain ⟨q9, eq9, h⟩ := jx_bi_some h
          refine jf_callL hx hb hml hown hts hlv hV (jf_letsOf_met eq9) jf_letsOf_g_X1 jf_letsOf_d (As := [.int x10]) (Nat.le_of_ble_eq_true rfl) (Nat.le_of_ble_eq_true rfl) hP hS (ci := 1) jf_o0 rfl hl.1 rfl rfl (lv_room (Nat.le_of_ble_eq_true rfl)) dX1_marks_139 (fun H locs hP hS => ?_)
          refine lv_lor hx hb dX1_marks_142 ?_
          obtain ⟨y10, ey10, h⟩ := jx_nx_some h
          refine jx_topl ey10 ?_
          refine lv_lstore (lv' := [(7, .long y10), (5, .long y8), (0, .ref (E.1 0)), (1, .int x1), (2, .long x2), (4, .int x4), (9, .int x9), (10, .int x10)]) hx hb dX1_marks_143 hl (Nat.le_of_ble_eq_true rfl) rfl (fun ls hl => ?_)
          refine lv_iconst hx hb dX1_marks_145 jx_ki1 ?_
          obtain ⟨y11, ey11, h⟩ := jx_nx_some h
          refine jx_topi ey11 ?_
          refine lv_istore (lv' := [(9, .int y11), (7, .long y10), (5, .long y8), (0, .ref (E.1 0)), (1, .int x1), (2, .long x2), (4, .int x4), (10, .int x10)]) hx hb dX1_marks_146 hl (Nat.le_of_ble_eq_true rfl) rfl (fun ls hl => ?_)
          exact jf_marks_b148_ok hX F hr7 hr63 hr74 _ _ _ _ _ _ _ _ h _ _ _ hP hS (lv_sub hl [3, 4, 5, 6, 2, 1, 0, 7] rfl)
        · rw [if_pos c6] at h
          refine lv_goto (tgt := 148) hx hb dX1_marks_121 rfl ?_
          exact jf_marks_b148_ok hX F hr7 hr63 hr74 _ _ _ _ _ _ _ _ h _ _ _ hP hS hl
theorem jf_marks_h74_ok {out : Int32 × jf_S} (hX : jf_Ok RX1 p R s m args meth c A D E cX1_marks 11 (some .int) 3) (F : Nat) {r7 : Int32 × Int64 × Int32 × jf_S → Option (Int32 × jf_S)} (hr7 : ∀ a, r7 a = some out → jf_J p l e R s m args below meth c A D E fo pl 11 (jf_Qi below args s A D E fo pl out) 7 [(0, .ref (E.1 0)), (1, .int a.1), (2, .long a.2.1), (4, .int a.2.2.1)] [] a.2.2.2) {r63 : Int32 × Int64 × Int32 × Int64 × Int64 × Int32 × jf_S → Option (Int32 × jf_S)} (hr63 : ∀ a, r63 a = some out → jf_J p l e R s m args below meth c A D E fo pl 11 (jf_Qi below args s A D E fo pl out) 63 [(0, .ref (E.1 0)), (1, .int a.1), (2, .long a.2.1), (4, .int a.2.2.1), (5, .long a.2.2.2.1), (7, .long a.2.2.2.2.1), (9, .int a.2.2.2.2.2.1)] [] a.2.2.2.2.2.2) (n : Nat) (a : Int32 × Int64 × Int32 × Int64 × Int64 × Int32 × Int32 × jf_S) (h : jf_marks_h74 F r7 r63 n a = some out) : jf_J p l e R s m args below meth c A D E fo pl 11 (jf_Qi below args s A D E fo pl out) 74 [(0, .ref (E.1 0)), (1, .int a.1), (2, .long a.2.1), (4, .int a.2.2.1), (5, .long a.2.2.2.1), (7, .long a.2.2.2.2.1), (9, .int a.2.2.2.2.2.1), (10, .int a.2.2.2.2.2.2.1)] [] a.2.2.2.2.2.2.2 :=
  jx_loop_ind (J := fun a => jf_J p l e R s m args below meth c A D E fo pl 11 (jf_Qi below args s A D E fo pl out) 74 [(0, .ref (E.1 0)), (1, .int a.1), (2, .long a.2.1), (4, .int a.2.2.1), (5, .long a.2.2.2.1), (7, .long a.2.2.2.2.1), (9, .int a.2.2.2.2.2.1), (10, .int a.2.2.2.2.2.2.1)] [] a.2.2.2.2.2.2.2) (fun r hr a h => jf_marks_L74_ok hX F hr7 hr63 hr a.1 a.2.1 a.2.2.1 a.2.2.2.1 a.2.2.2.2.1 a.2.2.2.2.2.1 a.2.2.2.2.2.2.1 a.2.2.2.2.2.2.2 h) n a h
theorem jf_marks_b162_ok {out : Int32 × jf_S} (hX : jf_Ok RX1 p R s m args meth c A D E cX1_marks 11 (some .int) 3) (F : Nat) {r7 : Int32 × Int64 × Int32 × jf_S → Option (Int32 × jf_S)} (hr7 : ∀ a, r7 a = some out → jf_J p l e R s m args below meth c A D E fo pl 11 (jf_Qi below args s A D E fo pl out) 7 [(0, .ref (E.1 0)), (1, .int a.1), (2, .long a.2.1), (4, .int a.2.2.1)] [] a.2.2.2) (x1 : Int32) (x2 : Int64) (x4 : Int32) (S : jf_S) (h : jf_marks_b162 F r7 x1 x2 x4 S = some out) : jf_J p l e R s m args below meth c A D E fo pl 11 (jf_Qi below args s A D E fo pl out) 162 [(0, .ref (E.1 0)), (1, .int x1), (2, .long x2), (4, .int x4)] [] S := by
  intro H locs ls hP hS hl
  have hX0 := hX
  obtain ⟨hx, hb, hml, hown, hts, hlk, hr, hlv, hV, het⟩ := hX0
  unfold jf_marks_b162 at h
  obtain ⟨y1, ey1, h⟩ := jx_nx_some h
  refine lv_iinc (v := y1) (lv' := [(4, .int y1), (0, .ref (E.1 0)), (1, .int x1), (2, .long x2)]) hx hb dX1_marks_162 hl (k := 3) rfl (jx_inc jx_ki1 ey1) (Nat.le_of_ble_eq_true rfl) rfl (fun ls hl => ?_)
  refine lv_goto (tgt := 7) hx hb dX1_marks_165 rfl ?_
  exact hr7 _ h _ _ _ hP hS (lv_sub hl [1, 2, 3, 0] rfl)
theorem jf_marks_L63_ok {out : Int32 × jf_S} (hX : jf_Ok RX1 p R s m args meth c A D E cX1_marks 11 (some .int) 3) (F : Nat) {r7 : Int32 × Int64 × Int32 × jf_S → Option (Int32 × jf_S)} (hr7 : ∀ a, r7 a = some out → jf_J p l e R s m args below meth c A D E fo pl 11 (jf_Qi below args s A D E fo pl out) 7 [(0, .ref (E.1 0)), (1, .int a.1), (2, .long a.2.1), (4, .int a.2.2.1)] [] a.2.2.2) {r63 : Int32 × Int64 × Int32 × Int64 × Int64 × Int32 × jf_S → Option (Int32 × jf_S)} (hr63 : ∀ a, r63 a = some out → jf_J p l e R s m args below meth c A D E fo pl 11 (jf_Qi below args s A D E fo pl out) 63 [(0, .ref (E.1 0)), (1, .int a.1), (2, .long a.2.1), (4, .int a.2.2.1), (5, .long a.2.2.2.1), (7, .long a.2.2.2.2.1), (9, .int a.2.2.2.2.2.1)] [] a.2.2.2.2.2.2) (x1 : Int32) (x2 : Int64) (x4 : Int32) (x5 : Int64) (x7 : Int64) (x9 : Int32) (S : jf_S) (h : jf_marks_L63 F r7 r63 x1 x2 x4 x5 x7 x9 S = some out) : jf_J p l e R s m args below meth c A D E fo pl 11 (jf_Qi below args s A D E fo pl out) 63 [(0, .ref (E.1 0)), (1, .int x1), (2, .long x2), (4, .int x4), (5, .long x5), (7, .long x7), (9, .int x9)] [] S := by
  intro H locs ls hP hS hl
  have hX0 := hX
  obtain ⟨hx, hb, hml, hown, hts, hlk, hr, hlv, hV, het⟩ := hX0
  unfold jf_marks_L63 at h
  refine lv_iload hx hb dX1_marks_63 (lv_at hl 6 rfl) ?_
  refine lv_if_eq (tgt := 157) hx hb dX1_marks_65 rfl (fun c1 => ?_) (fun c1 => ?_)
  · rw [if_pos c1] at h
    refine lv_lload_n hx hb dX1_marks_157 rfl (lv_at hl 2 rfl) ?_
    refine lv_lload hx hb dX1_marks_158 (lv_at hl 4 rfl) ?_
    refine lv_lor hx hb dX1_marks_160 ?_
    obtain ⟨y2, ey2, h⟩ := jx_nx_some h
    refine jx_topl ey2 ?_
    refine lv_lstore_n (lv' := [(2, .long y2), (0, .ref (E.1 0)), (1, .int x1), (4, .int x4), (5, .long x5), (7, .long x7), (9, .int x9)]) hx hb dX1_marks_161 rfl hl (Nat.le_of_ble_eq_true rfl) rfl (fun ls hl => ?_)
    exact jf_marks_b162_ok hX F hr7 _ _ _ _ h _ _ _ hP hS (lv_sub hl [1, 2, 0, 3] rfl)
  · rw [if_neg c1] at h
    refine lv_iconst hx hb dX1_marks_68 jx_ki0 ?_
    obtain ⟨y3, ey3, h⟩ := jx_nx_some h
    refine jx_topi ey3 ?_
    refine lv_istore (lv' := [(9, .int y3), (0, .ref (E.1 0)), (1, .int x1), (2, .long x2), (4, .int x4), (5, .long x5), (7, .long x7)]) hx hb dX1_marks_69 hl (Nat.le_of_ble_eq_true rfl) rfl (fun ls hl => ?_)
    refine lv_iconst hx hb dX1_marks_71 jx_ki0 ?_
    obtain ⟨y4, ey4, h⟩ := jx_nx_some h
    refine jx_topi ey4 ?_
    refine lv_istore (lv' := [(10, .int y4), (9, .int y3), (0, .ref (E.1 0)), (1, .int x1), (2, .long x2), (4, .int x4), (5, .long x5), (7, .long x7)]) hx hb dX1_marks_72 hl (Nat.le_of_ble_eq_true rfl) rfl (fun ls hl => ?_)
    exact jf_marks_h74_ok hX F hr7 hr63 F _ h _ _ _ hP hS (lv_sub hl [2, 3, 4, 5, 6, 7, 1, 0] rfl)
theorem jf_marks_h63_ok {out : Int32 × jf_S} (hX : jf_Ok RX1 p R s m args meth c A D E cX1_marks 11 (some .int) 3) (F : Nat) {r7 : Int32 × Int64 × Int32 × jf_S → Option (Int32 × jf_S)} (hr7 : ∀ a, r7 a = some out → jf_J p l e R s m args below meth c A D E fo pl 11 (jf_Qi below args s A D E fo pl out) 7 [(0, .ref (E.1 0)), (1, .int a.1), (2, .long a.2.1), (4, .int a.2.2.1)] [] a.2.2.2) (n : Nat) (a : Int32 × Int64 × Int32 × Int64 × Int64 × Int32 × jf_S) (h : jf_marks_h63 F r7 n a = some out) : jf_J p l e R s m args below meth c A D E fo pl 11 (jf_Qi below args s A D E fo pl out) 63 [(0, .ref (E.1 0)), (1, .int a.1), (2, .long a.2.1), (4, .int a.2.2.1), (5, .long a.2.2.2.1), (7, .long a.2.2.2.2.1), (9, .int a.2.2.2.2.2.1)] [] a.2.2.2.2.2.2 :=
  jx_loop_ind (J := fun a => jf_J p l e R s m args below meth c A D E fo pl 11 (jf_Qi below args s A D E fo pl out) 63 [(0, .ref (E.1 0)), (1, .int a.1), (2, .long a.2.1), (4, .int a.2.2.1), (5, .long a.2.2.2.1), (7, .long a.2.2.2.2.1), (9, .int a.2.2.2.2.2.1)] [] a.2.2.2.2.2.2) (fun r hr a h => jf_marks_L63_ok hX F hr7 hr a.1 a.2.1 a.2.2.1 a.2.2.2.1 a.2.2.2.2.1 a.2.2.2.2.2.1 a.2.2.2.2.2.2 h) n a h
theorem jf_marks_L7_ok {out : Int32 × jf_S} (hX : jf_Ok RX1 p R s m args meth c A D E cX1_marks 11 (some .int) 3) (F : Nat) {r7 : Int32 × Int64 × Int32 × jf_S → Option (Int32 × jf_S)} (hr7 : ∀ a, r7 a = some out → jf_J p l e R s m args below meth c A D E fo pl 11 (jf_Qi below args s A D E fo pl out) 7 [(0, .ref (E.1 0)), (1, .int a.1), (2, .long a.2.1), (4, .int a.2.2.1)] [] a.2.2.2) (x1 : Int32) (x2 : Int64) (x4 : Int32) (S : jf_S) (h : jf_marks_L7 F r7 x1 x2 x4 S = some out) : jf_J p l e R s m args below meth c A D E fo pl 11 (jf_Qi below args s A D E fo pl out) 7 [(0, .ref (E.1 0)), (1, .int x1), (2, .long x2), (4, .int x4)] [] S := by
  intro H locs ls hP hS hl
  have hX0 := hX
  obtain ⟨hx, hb, hml, hown, hts, hlk, hr, hlv, hV, het⟩ := hX0
  unfold jf_marks_L7 at h
  refine lv_iload hx hb dX1_marks_7 (lv_at hl 3 rfl) ?_
  refine lv_aload_n hx hb dX1_marks_9 rfl (lv_at hl 0 rfl) ?_
  refine jf_get hx hb hts in_X1 hown hV hP (ci := 1) (k := 1) jf_o0 rfl (by decide) (hts _ q455) rfl rfl dX1_marks_10 ?_
  refine jf_getN hx hb hts in_X4 hown hV hP (ci := 3) (k := 13) (jf_oP (Or.inl rfl)) rfl (by decide) (jf_l_X1_70 hV.2.2.1) rfl rfl dX1_marks_13 ?_
  refine lv_icmp_ge (tgt := 168) hx hb dX1_marks_16 rfl (fun c1 => ?_) (fun c1 => ?_)
  · rw [if_pos c1] at h
    refine lv_iload_n hx hb dX1_marks_168 rfl (lv_at hl 1 rfl) ?_
    exact jf_iret hx hb hr hlk hV hP hS h dX1_marks_169
  · rw [if_neg c1] at h
    refine lv_aload_n hx hb dX1_marks_19 rfl (lv_at hl 0 rfl) ?_
    refine lv_iload hx hb dX1_marks_20 (lv_at hl 3 rfl) ?_
    obtain ⟨q2, eq2, h⟩ := jx_bi_some h
    refine jf_callI hx hb hml hown hts hlv hV (jf_isGuarded_met eq2) jf_isGuarded_g_X1 jf_isGuarded_d (As := [.int x4]) (Nat.le_of_ble_eq_true rfl) (Nat.le_of_ble_eq_true rfl) hP hS (ci := 1) jf_o0 rfl hl.1 rfl rfl (lv_room (Nat.le_of_ble_eq_true rfl)) dX1_marks_22 (fun H locs hP hS => ?_)
    refine lv_if_eq (tgt := 162) hx hb dX1_marks_25 rfl (fun c3 => ?_) (fun c3 => ?_)
    · rw [if_pos c3] at h
      exact jf_marks_b162_ok hX F hr7 _ _ _ _ h _ _ _ hP hS hl
    · rw [if_neg c3] at h
      refine lv_lload_n hx hb dX1_marks_28 rfl (lv_at hl 2 rfl) ?_
      refine lv_iload hx hb dX1_marks_29 (lv_at hl 3 rfl) ?_
      refine lv_lshr hx hb dX1_marks_31 rfl ?_
      refine lv_lconst hx hb dX1_marks_32 jx_kl1 ?_
      refine lv_land hx hb dX1_marks_33 ?_
      refine lv_lconst hx hb dX1_marks_34 jx_kl1 ?_
      refine W.lcmp hx hb dX1_marks_35 ?_
      refine lv_if_ne (tgt := 42) hx hb dX1_marks_36 rfl (fun c4 => ?_) (fun c4 => ?_)
      · rw [if_neg c4] at h
        obtain ⟨y5, ey5, h⟩ := jx_nx_some h
        refine lv_iinc (v := y5) (lv' := [(1, .int y5), (0, .ref (E.1 0)), (2, .long x2), (4, .int x4)]) hx hb dX1_marks_42 hl (k := 1) rfl (jx_inc jx_ki1 ey5) (Nat.le_of_ble_eq_true rfl) rfl (fun ls hl => ?_)
        refine lv_iload hx hb dX1_marks_45 (lv_at hl 3 rfl) ?_
        obtain ⟨q6, eq6, h⟩ := jx_bi_some h
        refine jx_callSl hx hb hml hown hts (jf_bit_met eq6) jf_bit_g_X1 jf_bit_d (As := [.int x4]) (⟨Nat.le_trans (Nat.le_of_ble_eq_true rfl) hlv.1, Nat.le_trans (Nat.le_of_ble_eq_true rfl) hlv.2⟩) hl.1 rfl rfl (lv_room (Nat.le_of_ble_eq_true rfl)) dX1_marks_47 ⟨Nat.zero_le _, Nat.zero_le _⟩ ?_
        refine lv_lstore (lv' := [(5, .long q6), (1, .int y5), (0, .ref (E.1 0)), (2, .long x2), (4, .int x4)]) hx hb dX1_marks_50 hl (Nat.le_of_ble_eq_true rfl) rfl (fun ls hl => ?_)
        refine lv_aload_n hx hb dX1_marks_52 rfl (lv_at hl 2 rfl) ?_
        refine lv_iload hx hb dX1_marks_53 (lv_at hl 4 rfl) ?_
        obtain ⟨q7, eq7, h⟩ := jx_bi_some h
        refine jf_callL hx hb hml hown hts hlv hV (jf_letsOf_met eq7) jf_letsOf_g_X1 jf_letsOf_d (As := [.int x4]) (Nat.le_of_ble_eq_true rfl) (Nat.le_of_ble_eq_true rfl) hP hS (ci := 1) jf_o0 rfl hl.1 rfl rfl (lv_room (Nat.le_of_ble_eq_true rfl)) dX1_marks_55 (fun H locs hP hS => ?_)
        obtain ⟨y8, ey8, h⟩ := jx_nx_some h
        refine jx_topl ey8 ?_
        refine lv_lstore (lv' := [(7, .long y8), (5, .long q6), (1, .int y5), (0, .ref (E.1 0)), (2, .long x2), (4, .int x4)]) hx hb dX1_marks_58 hl (Nat.le_of_ble_eq_true rfl) rfl (fun ls hl => ?_)
        refine lv_iconst hx hb dX1_marks_60 jx_ki1 ?_
        obtain ⟨y9, ey9, h⟩ := jx_nx_some h
        refine jx_topi ey9 ?_
        refine lv_istore (lv' := [(9, .int y9), (7, .long y8), (5, .long q6), (1, .int y5), (0, .ref (E.1 0)), (2, .long x2), (4, .int x4)]) hx hb dX1_marks_61 hl (Nat.le_of_ble_eq_true rfl) rfl (fun ls hl => ?_)
        exact jf_marks_h63_ok hX F hr7 F _ h _ _ _ hP hS (lv_sub hl [4, 3, 5, 6, 2, 1, 0] rfl)
      · rw [if_pos c4] at h
        refine lv_goto (tgt := 162) hx hb dX1_marks_39 rfl ?_
        exact jf_marks_b162_ok hX F hr7 _ _ _ _ h _ _ _ hP hS hl
theorem jf_marks_h7_ok {out : Int32 × jf_S} (hX : jf_Ok RX1 p R s m args meth c A D E cX1_marks 11 (some .int) 3) (F : Nat) (n : Nat) (a : Int32 × Int64 × Int32 × jf_S) (h : jf_marks_h7 F n a = some out) : jf_J p l e R s m args below meth c A D E fo pl 11 (jf_Qi below args s A D E fo pl out) 7 [(0, .ref (E.1 0)), (1, .int a.1), (2, .long a.2.1), (4, .int a.2.2.1)] [] a.2.2.2 :=
  jx_loop_ind (J := fun a => jf_J p l e R s m args below meth c A D E fo pl 11 (jf_Qi below args s A D E fo pl out) 7 [(0, .ref (E.1 0)), (1, .int a.1), (2, .long a.2.1), (4, .int a.2.2.1)] [] a.2.2.2) (fun r hr a h => jf_marks_L7_ok hX F hr a.1 a.2.1 a.2.2.1 a.2.2.2 h) n a h
theorem jf_marks_ok {out : Int32 × jf_S} (hX : jf_Ok RX1 p R s m args meth c A D E cX1_marks 11 (some .int) 3) (F : Nat)  (S : jf_S) (h : jf_marks F  S = some out) : jf_J p l e R s m args below meth c A D E fo pl 11 (jf_Qi below args s A D E fo pl out) 0 [(0, .ref (E.1 0))] [] S := by
  intro H locs ls hP hS hl
  have hX0 := hX
  obtain ⟨hx, hb, hml, hown, hts, hlk, hr, hlv, hV, het⟩ := hX0
  unfold jf_marks at h
  refine lv_iconst hx hb dX1_marks_0 jx_ki0 ?_
  obtain ⟨y1, ey1, h⟩ := jx_nx_some h
  refine jx_topi ey1 ?_
  refine lv_istore_n (lv' := [(1, .int y1), (0, .ref (E.1 0))]) hx hb dX1_marks_1 rfl hl (Nat.le_of_ble_eq_true rfl) rfl (fun ls hl => ?_)
  refine lv_lconst hx hb dX1_marks_2 jx_kl0 ?_
  obtain ⟨y2, ey2, h⟩ := jx_nx_some h
  refine jx_topl ey2 ?_
  refine lv_lstore_n (lv' := [(2, .long y2), (1, .int y1), (0, .ref (E.1 0))]) hx hb dX1_marks_3 rfl hl (Nat.le_of_ble_eq_true rfl) rfl (fun ls hl => ?_)
  refine lv_iconst hx hb dX1_marks_4 jx_ki0 ?_
  obtain ⟨y3, ey3, h⟩ := jx_nx_some h
  refine jx_topi ey3 ?_
  refine lv_istore (lv' := [(4, .int y3), (2, .long y2), (1, .int y1), (0, .ref (E.1 0))]) hx hb dX1_marks_5 hl (Nat.le_of_ble_eq_true rfl) rfl (fun ls hl => ?_)
  exact jf_marks_h7_ok hX F F _ h _ _ _ hP hS (lv_sub hl [3, 2, 1, 0] rfl)
theorem jf_marks_met {l : Launch} {D : va_G} {E : jf_E} {A : Nat → Prop} {fo : Nat → Nat → Option Nat} {pl : va_W} {F : Nat}  {S : jf_S} {out : Int32 × jf_S} (h : jf_marks F  S = some out) : jf_Mi l D E A fo pl yX1_marks cX1_marks 11 (some .int) 3 [.ref (E.1 0)] S out :=
  jf_Mi_of (own := RX1) ⟨by decide, rfl, Nat.le_of_ble_eq_true rfl⟩ (fun hX => jf_marks_ok hX F  S h)
theorem jf_judge_d : yX1_judge.cls = RX1 ∧ yX1_judge.cls ≠ "java/lang/invoke/MethodHandle" ∧ yX1_judge.cls ≠ "java/lang/invoke/VarHandle" ∧ (parseMethodDescriptor yX1_judge.desc).map (fun d => d.parameters.length) = some 0 := by decide +kernel
theorem jf_judge_L27_ok {out : Int32 × jf_S} (hX : jf_Ok RX1 p R s m args meth c A D E cX1_judge 3 (some .int) 8) (F : Nat) {r27 : Int32 × Int32 × jf_S → Option (Int32 × jf_S)} (hr27 : ∀ a, r27 a = some out → jf_J p l e R s m args below meth c A D E fo pl 3 (jf_Qi below args s A D E fo pl out) 27 [(0, .ref (E.1 0)), (1, .int a.1), (2, .int a.2.1)] [] a.2.2) (x1 : Int32) (x2 : Int32) (S : jf_S) (h : jf_judge_L27 F r27 x1 x2 S = some out) : jf_J p l e R s m args below meth c A D E fo pl 3 (jf_Qi below args s A D E fo pl out) 27 [(0, .ref (E.1 0)), (1, .int x1), (2, .int x2)] [] S := by
  intro H locs ls hP hS hl
  have hX0 := hX
  obtain ⟨hx, hb, hml, hown, hts, hlk, hr, hlv, hV, het⟩ := hX0
  unfold jf_judge_L27 at h
  refine lv_iload_n hx hb dX1_judge_27 rfl (lv_at hl 2 rfl) ?_
  refine lv_iload_n hx hb dX1_judge_28 rfl (lv_at hl 1 rfl) ?_
  refine lv_icmp_ge (tgt := 76) hx hb dX1_judge_29 rfl (fun c1 => ?_) (fun c1 => ?_)
  · rw [if_pos c1] at h
    refine lv_iconst hx hb dX1_judge_76 jx_kim1 ?_
    exact jf_iret hx hb hr hlk hV hP hS h dX1_judge_77
  · rw [if_neg c1] at h
    refine lv_iload_n hx hb dX1_judge_32 rfl (lv_at hl 2 rfl) ?_
    refine lv_aload_n hx hb dX1_judge_33 rfl (lv_at hl 0 rfl) ?_
    refine jf_get hx hb hts in_X1 hown hV hP (ci := 1) (k := 3) jf_o0 rfl (by decide) (hts _ q457) rfl rfl dX1_judge_34 ?_
    refine jf_getN hx hb hts in_X5 hown hV hP (ci := 4) (k := 10) jf_o5 rfl (by decide) (jf_l_X1_199 hV.2.2.1) rfl rfl dX1_judge_37 ?_
    refine lv_icmp_ge (tgt := 68) hx hb dX1_judge_40 rfl (fun c2 => ?_) (fun c2 => ?_)
    · rw [if_pos c2] at h
      refine lv_iload_n hx hb dX1_judge_68 rfl (lv_at hl 2 rfl) ?_
      exact jf_iret hx hb hr hlk hV hP hS h dX1_judge_69
    · rw [if_neg c2] at h
      refine lv_aload_n hx hb dX1_judge_43 rfl (lv_at hl 0 rfl) ?_
      refine jf_get hx hb hts in_X1 hown hV hP (ci := 1) (k := 0) jf_o0 rfl (by decide) (hts _ q454) rfl rfl dX1_judge_44 ?_
      refine jf_getN hx hb hts in_X2 hown hV hP (ci := 2) (k := 0) jf_o1 rfl (by decide) (jf_l_X1_104 hV.2.2.1) rfl rfl dX1_judge_47 ?_
      refine lv_iload_n hx hb dX1_judge_50 rfl (lv_at hl 2 rfl) ?_
      obtain ⟨j3, ej3, bj3, h⟩ := jx_ga_some h
      refine jf_bald hx hb hV hP jf_a1_0 ej3 bj3 dX1_judge_51 ?_
      refine lv_sipush hx hb dX1_judge_52 jx_ks255 ?_
      refine lv_iand hx hb dX1_judge_55 ?_
      refine lv_aload_n hx hb dX1_judge_56 rfl (lv_at hl 0 rfl) ?_
      refine jf_get hx hb hts in_X1 hown hV hP (ci := 1) (k := 3) jf_o0 rfl (by decide) (hts _ q457) rfl rfl dX1_judge_57 ?_
      refine jf_getN hx hb hts in_X5 hown hV hP (ci := 4) (k := 6) jf_o5 rfl (by decide) (jf_l_X1_219 hV.2.2.1) rfl rfl dX1_judge_60 ?_
      refine lv_iload_n hx hb dX1_judge_63 rfl (lv_at hl 2 rfl) ?_
      obtain ⟨j4, ej4, bj4, h⟩ := jx_ga_some h
      refine jf_iald hx hb hV hP jf_a5_6 ej4 bj4 dX1_judge_64 ?_
      refine lv_icmp_eq (tgt := 70) hx hb dX1_judge_65 rfl (fun c5 => ?_) (fun c5 => ?_)
      · rw [if_pos c5] at h
        obtain ⟨y6, ey6, h⟩ := jx_nx_some h
        refine lv_iinc (v := y6) (lv' := [(2, .int y6), (0, .ref (E.1 0)), (1, .int x1)]) hx hb dX1_judge_70 hl (k := 2) rfl (jx_inc jx_ki1 ey6) (Nat.le_of_ble_eq_true rfl) rfl (fun ls hl => ?_)
        refine lv_goto (tgt := 27) hx hb dX1_judge_73 rfl ?_
        exact hr27 _ h _ _ _ hP hS (lv_sub hl [1, 2, 0] rfl)
      · rw [if_neg c5] at h
        refine lv_iload_n hx hb dX1_judge_68 rfl (lv_at hl 2 rfl) ?_
        exact jf_iret hx hb hr hlk hV hP hS h dX1_judge_69
theorem jf_judge_h27_ok {out : Int32 × jf_S} (hX : jf_Ok RX1 p R s m args meth c A D E cX1_judge 3 (some .int) 8) (F : Nat) (n : Nat) (a : Int32 × Int32 × jf_S) (h : jf_judge_h27 F n a = some out) : jf_J p l e R s m args below meth c A D E fo pl 3 (jf_Qi below args s A D E fo pl out) 27 [(0, .ref (E.1 0)), (1, .int a.1), (2, .int a.2.1)] [] a.2.2 :=
  jx_loop_ind (J := fun a => jf_J p l e R s m args below meth c A D E fo pl 3 (jf_Qi below args s A D E fo pl out) 27 [(0, .ref (E.1 0)), (1, .int a.1), (2, .int a.2.1)] [] a.2.2) (fun r hr a h => jf_judge_L27_ok hX F hr a.1 a.2.1 a.2.2 h) n a h
theorem jf_judge_ok {out : Int32 × jf_S} (hX : jf_Ok RX1 p R s m args meth c A D E cX1_judge 3 (some .int) 8) (F : Nat)  (S : jf_S) (h : jf_judge F  S = some out) : jf_J p l e R s m args below meth c A D E fo pl 3 (jf_Qi below args s A D E fo pl out) 0 [(0, .ref (E.1 0))] [] S := by
  intro H locs ls hP hS hl
  have hX0 := hX
  obtain ⟨hx, hb, hml, hown, hts, hlk, hr, hlv, hV, het⟩ := hX0
  unfold jf_judge at h
  refine lv_aload_n hx hb dX1_judge_0 rfl (lv_at hl 0 rfl) ?_
  refine jf_get hx hb hts in_X1 hown hV hP (ci := 1) (k := 0) jf_o0 rfl (by decide) (hts _ q454) rfl rfl dX1_judge_1 ?_
  refine jf_getN hx hb hts in_X2 hown hV hP (ci := 2) (k := 4) jf_o1 rfl (by decide) (jf_l_X1_108 hV.2.2.1) rfl rfl dX1_judge_4 ?_
  obtain ⟨y1, ey1, h⟩ := jx_nx_some h
  refine jx_topi ey1 ?_
  refine lv_istore_n (lv' := [(1, .int y1), (0, .ref (E.1 0))]) hx hb dX1_judge_7 rfl hl (Nat.le_of_ble_eq_true rfl) rfl (fun ls hl => ?_)
  refine lv_aload_n hx hb dX1_judge_8 rfl (lv_at hl 1 rfl) ?_
  refine jf_get hx hb hts in_X1 hown hV hP (ci := 1) (k := 0) jf_o0 rfl (by decide) (hts _ q454) rfl rfl dX1_judge_9 ?_
  refine lv_iconst hx hb dX1_judge_12 jx_ki0 ?_
  obtain ⟨S2, eS2, h⟩ := jx_nx_some h
  refine jf_putN (S1 := S2) hx hb hts in_X2 tyX2_ok nmX2 hown hV hP hS (ci := 2) (k := 4) (by rw [eS2]; rfl) jf_o1 (by rw [eS2]; exact jf_s1_4 _) rfl (by decide) (jf_l_X1_108 hV.2.2.1) rfl rfl (tyX2_ok 4 (by decide)) ⟨rfl, rfl⟩ (Nat.le_of_ble_eq_true rfl) dX1_judge_13 (fun H locs hP hS => ?_)
  refine lv_aload_n hx hb dX1_judge_16 rfl (lv_at hl 1 rfl) ?_
  refine jf_get hx hb hts in_X1 hown hV hP (ci := 1) (k := 3) jf_o0 rfl (by decide) (hts _ q457) rfl rfl dX1_judge_17 ?_
  refine lv_iconst hx hb dX1_judge_20 jx_ki1 ?_
  refine lv_iconst hx hb dX1_judge_21 jx_ki1 ?_
  obtain ⟨q3, eq3, h⟩ := jx_bi_some h
  refine jf_callV hx hb hml hown hts hlv hV (jk_runs_met eq3) jk_runs_g_X1 jk_runs_d (As := [.int (nI 1), .int (nI 1)]) (Nat.le_of_ble_eq_true rfl) (Nat.le_of_ble_eq_true rfl) hP hS (ci := 4) jf_o5 rfl hl.1 rfl rfl (lv_room (Nat.le_of_ble_eq_true rfl)) dX1_judge_22 (fun H locs hP hS => ?_)
  refine lv_iconst hx hb dX1_judge_25 jx_ki0 ?_
  obtain ⟨y4, ey4, h⟩ := jx_nx_some h
  refine jx_topi ey4 ?_
  refine lv_istore_n (lv' := [(2, .int y4), (1, .int y1), (0, .ref (E.1 0))]) hx hb dX1_judge_26 rfl hl (Nat.le_of_ble_eq_true rfl) rfl (fun ls hl => ?_)
  exact jf_judge_h27_ok hX F F _ h _ _ _ hP hS (lv_sub hl [2, 1, 0] rfl)
theorem jf_judge_met {l : Launch} {D : va_G} {E : jf_E} {A : Nat → Prop} {fo : Nat → Nat → Option Nat} {pl : va_W} {F : Nat}  {S : jf_S} {out : Int32 × jf_S} (h : jf_judge F  S = some out) : jf_Mi l D E A fo pl yX1_judge cX1_judge 3 (some .int) 8 [.ref (E.1 0)] S out :=
  jf_Mi_of (own := RX1) ⟨by decide, rfl, Nat.le_of_ble_eq_true rfl⟩ (fun hX => jf_judge_ok hX F  S h)
theorem jf_finds_g_X1 : GoodIn lw_all (wsV RX1 312 RX1 yX1_finds (ws_ yX1_finds cX1_finds 10 (some .boolean))) := lw_V q869 q871 qs11 q102 q872
theorem jf_finds_d : yX1_finds.cls = RX1 ∧ yX1_finds.cls ≠ "java/lang/invoke/MethodHandle" ∧ yX1_finds.cls ≠ "java/lang/invoke/VarHandle" ∧ (parseMethodDescriptor yX1_finds.desc).map (fun d => d.parameters.length) = some 2 := by decide +kernel
theorem jf_finds_b47_ok {out : Int32 × jf_S} (hX : jf_Ok RX1 p R s m args meth c A D E cX1_finds 10 (some .boolean) 4) (F : Nat) {r12 : Int32 × Int64 × Int32 × jf_S → Option (Int32 × jf_S)} (hr12 : ∀ a, r12 a = some out → jf_J p l e R s m args below meth c A D E fo pl 10 (jf_Qi below args s A D E fo pl out) 12 [(0, .ref (E.1 0)), (1, .int a.1), (3, .long a.2.1), (5, .int a.2.2.1)] [] a.2.2.2) (x1 : Int32) (x3 : Int64) (x5 : Int32) (k0 : Int32) (k1 : Int32) (S : jf_S) (h : jf_finds_b47 F r12 x1 x3 x5 k0 k1 S = some out) : jf_J p l e R s m args below meth c A D E fo pl 10 (jf_Qi below args s A D E fo pl out) 47 [(0, .ref (E.1 0)), (1, .int x1), (3, .long x3), (5, .int x5)] [.int k0, .int k1, .ref (E.2.1 0 4)] S := by
  intro H locs ls hP hS hl
  have hX0 := hX
  obtain ⟨hx, hb, hml, hown, hts, hlk, hr, hlv, hV, het⟩ := hX0
  unfold jf_finds_b47 at h
  obtain ⟨j1, ej1, bj1, h⟩ := jx_ga_some h
  obtain ⟨S2, eS2, h⟩ := jx_nx_some h
  refine jf_iast hx hb hV hP hS jf_a0_4 ej1 bj1 eS2 dX1_finds_47 (fun H locs hP hS => ?_)
  obtain ⟨y3, ey3, h⟩ := jx_nx_some h
  refine lv_iinc (v := y3) (lv' := [(5, .int y3), (0, .ref (E.1 0)), (1, .int x1), (3, .long x3)]) hx hb dX1_finds_48 hl (k := 3) rfl (jx_inc jx_ki1 ey3) (Nat.le_of_ble_eq_true rfl) rfl (fun ls hl => ?_)
  refine lv_goto (tgt := 12) hx hb dX1_finds_51 rfl ?_
  exact hr12 _ h _ _ _ hP hS (lv_sub hl [1, 2, 3, 0] rfl)
theorem jf_finds_b167_ok {out : Int32 × jf_S} (hX : jf_Ok RX1 p R s m args meth c A D E cX1_finds 10 (some .boolean) 4) (F : Nat) {r57 : Int32 × Int32 × jf_S → Option (Int32 × jf_S)} (hr57 : ∀ a, r57 a = some out → jf_J p l e R s m args below meth c A D E fo pl 10 (jf_Qi below args s A D E fo pl out) 57 [(0, .ref (E.1 0)), (1, .int a.1), (5, .int a.2.1)] [] a.2.2) {r68 : Int32 × Int32 × Int32 × jf_S → Option (Int32 × jf_S)} (hr68 : ∀ a, r68 a = some out → jf_J p l e R s m args below meth c A D E fo pl 10 (jf_Qi below args s A D E fo pl out) 68 [(0, .ref (E.1 0)), (1, .int a.1), (5, .int a.2.1), (6, .int a.2.2.1)] [] a.2.2.2) {r102 : Int32 × Int32 × Int32 × Int64 × Int32 × jf_S → Option (Int32 × jf_S)} (hr102 : ∀ a, r102 a = some out → jf_J p l e R s m args below meth c A D E fo pl 10 (jf_Qi below args s A D E fo pl out) 102 [(0, .ref (E.1 0)), (1, .int a.1), (5, .int a.2.1), (6, .int a.2.2.1), (7, .long a.2.2.2.1), (9, .int a.2.2.2.2.1)] [] a.2.2.2.2.2) (x1 : Int32) (x5 : Int32) (x6 : Int32) (x7 : Int64) (x9 : Int32) (S : jf_S) (h : jf_finds_b167 F r57 r68 r102 x1 x5 x6 x7 x9 S = some out) : jf_J p l e R s m args below meth c A D E fo pl 10 (jf_Qi below args s A D E fo pl out) 167 [(0, .ref (E.1 0)), (1, .int x1), (5, .int x5), (6, .int x6), (7, .long x7), (9, .int x9)] [] S := by
  intro H locs ls hP hS hl
  have hX0 := hX
  obtain ⟨hx, hb, hml, hown, hts, hlk, hr, hlv, hV, het⟩ := hX0
  unfold jf_finds_b167 at h
  obtain ⟨y1, ey1, h⟩ := jx_nx_some h
  refine lv_iinc (v := y1) (lv' := [(9, .int y1), (0, .ref (E.1 0)), (1, .int x1), (5, .int x5), (6, .int x6), (7, .long x7)]) hx hb dX1_finds_167 hl (k := 5) rfl (jx_inc jx_ki1 ey1) (Nat.le_of_ble_eq_true rfl) rfl (fun ls hl => ?_)
  refine lv_goto (tgt := 102) hx hb dX1_finds_170 rfl ?_
  exact hr102 _ h _ _ _ hP hS (lv_sub hl [1, 2, 3, 4, 5, 0] rfl)
theorem jf_finds_L102_ok {out : Int32 × jf_S} (hX : jf_Ok RX1 p R s m args meth c A D E cX1_finds 10 (some .boolean) 4) (F : Nat) {r57 : Int32 × Int32 × jf_S → Option (Int32 × jf_S)} (hr57 : ∀ a, r57 a = some out → jf_J p l e R s m args below meth c A D E fo pl 10 (jf_Qi below args s A D E fo pl out) 57 [(0, .ref (E.1 0)), (1, .int a.1), (5, .int a.2.1)] [] a.2.2) {r68 : Int32 × Int32 × Int32 × jf_S → Option (Int32 × jf_S)} (hr68 : ∀ a, r68 a = some out → jf_J p l e R s m args below meth c A D E fo pl 10 (jf_Qi below args s A D E fo pl out) 68 [(0, .ref (E.1 0)), (1, .int a.1), (5, .int a.2.1), (6, .int a.2.2.1)] [] a.2.2.2) {r102 : Int32 × Int32 × Int32 × Int64 × Int32 × jf_S → Option (Int32 × jf_S)} (hr102 : ∀ a, r102 a = some out → jf_J p l e R s m args below meth c A D E fo pl 10 (jf_Qi below args s A D E fo pl out) 102 [(0, .ref (E.1 0)), (1, .int a.1), (5, .int a.2.1), (6, .int a.2.2.1), (7, .long a.2.2.2.1), (9, .int a.2.2.2.2.1)] [] a.2.2.2.2.2) (x1 : Int32) (x5 : Int32) (x6 : Int32) (x7 : Int64) (x9 : Int32) (S : jf_S) (h : jf_finds_L102 F r57 r68 r102 x1 x5 x6 x7 x9 S = some out) : jf_J p l e R s m args below meth c A D E fo pl 10 (jf_Qi below args s A D E fo pl out) 102 [(0, .ref (E.1 0)), (1, .int x1), (5, .int x5), (6, .int x6), (7, .long x7), (9, .int x9)] [] S := by
  intro H locs ls hP hS hl
  have hX0 := hX
  obtain ⟨hx, hb, hml, hown, hts, hlk, hr, hlv, hV, het⟩ := hX0
  unfold jf_finds_L102 at h
  refine lv_iload hx hb dX1_finds_102 (lv_at hl 5 rfl) ?_
  refine lv_aload_n hx hb dX1_finds_104 rfl (lv_at hl 0 rfl) ?_
  refine jf_get hx hb hts in_X1 hown hV hP (ci := 1) (k := 1) jf_o0 rfl (by decide) (hts _ q455) rfl rfl dX1_finds_105 ?_
  refine jf_getN hx hb hts in_X4 hown hV hP (ci := 3) (k := 13) (jf_oP (Or.inl rfl)) rfl (by decide) (jf_l_X1_70 hV.2.2.1) rfl rfl dX1_finds_108 ?_
  refine lv_icmp_ge (tgt := 173) hx hb dX1_finds_111 rfl (fun c1 => ?_) (fun c1 => ?_)
  · rw [if_pos c1] at h
    obtain ⟨y2, ey2, h⟩ := jx_nx_some h
    refine lv_iinc (v := y2) (lv' := [(6, .int y2), (0, .ref (E.1 0)), (1, .int x1), (5, .int x5), (7, .long x7), (9, .int x9)]) hx hb dX1_finds_173 hl (k := 3) rfl (jx_inc jx_ki1 ey2) (Nat.le_of_ble_eq_true rfl) rfl (fun ls hl => ?_)
    refine lv_goto (tgt := 68) hx hb dX1_finds_176 rfl ?_
    exact hr68 _ h _ _ _ hP hS (lv_sub hl [1, 2, 3, 0] rfl)
  · rw [if_neg c1] at h
    refine lv_lload hx hb dX1_finds_114 (lv_at hl 4 rfl) ?_
    refine lv_iload hx hb dX1_finds_116 (lv_at hl 5 rfl) ?_
    refine lv_lshr hx hb dX1_finds_118 rfl ?_
    refine lv_lconst hx hb dX1_finds_119 jx_kl1 ?_
    refine lv_land hx hb dX1_finds_120 ?_
    refine lv_lconst hx hb dX1_finds_121 jx_kl0 ?_
    refine W.lcmp hx hb dX1_finds_122 ?_
    refine lv_if_eq (tgt := 167) hx hb dX1_finds_123 rfl (fun c3 => ?_) (fun c3 => ?_)
    · rw [if_pos c3] at h
      exact jf_finds_b167_ok hX F hr57 hr68 hr102 _ _ _ _ _ _ h _ _ _ hP hS hl
    · rw [if_neg c3] at h
      refine lv_aload_n hx hb dX1_finds_126 rfl (lv_at hl 0 rfl) ?_
      refine jf_get hx hb hts in_X1 hown hV hP (ci := 1) (k := 4) jf_o0 rfl (by decide) (hts _ q458) rfl rfl dX1_finds_127 ?_
      refine lv_iload hx hb dX1_finds_130 (lv_at hl 5 rfl) ?_
      obtain ⟨j4, ej4, bj4, h⟩ := jx_ga_some h
      refine jf_iald hx hb hV hP jf_a0_4 ej4 bj4 dX1_finds_132 ?_
      refine lv_iconst hx hb dX1_finds_133 jx_ki1 ?_
      refine lv_iadd hx hb dX1_finds_134 ?_
      refine lv_aload_n hx hb dX1_finds_135 rfl (lv_at hl 0 rfl) ?_
      refine jf_get hx hb hts in_X1 hown hV hP (ci := 1) (k := 4) jf_o0 rfl (by decide) (hts _ q458) rfl rfl dX1_finds_136 ?_
      refine lv_iload hx hb dX1_finds_139 (lv_at hl 3 rfl) ?_
      obtain ⟨j5, ej5, bj5, h⟩ := jx_ga_some h
      refine jf_iald hx hb hV hP jf_a0_4 ej5 bj5 dX1_finds_141 ?_
      refine lv_icmp_lt (tgt := 148) hx hb dX1_finds_142 rfl (fun c6 => ?_) (fun c6 => ?_)
      · rw [if_pos c6] at h
        refine lv_aload_n hx hb dX1_finds_148 rfl (lv_at hl 0 rfl) ?_
        refine jf_get hx hb hts in_X1 hown hV hP (ci := 1) (k := 4) jf_o0 rfl (by decide) (hts _ q458) rfl rfl dX1_finds_149 ?_
        refine lv_iload hx hb dX1_finds_152 (lv_at hl 3 rfl) ?_
        refine lv_aload_n hx hb dX1_finds_154 rfl (lv_at hl 0 rfl) ?_
        refine jf_get hx hb hts in_X1 hown hV hP (ci := 1) (k := 4) jf_o0 rfl (by decide) (hts _ q458) rfl rfl dX1_finds_155 ?_
        refine lv_iload hx hb dX1_finds_158 (lv_at hl 5 rfl) ?_
        obtain ⟨j7, ej7, bj7, h⟩ := jx_ga_some h
        refine jf_iald hx hb hV hP jf_a0_4 ej7 bj7 dX1_finds_160 ?_
        refine lv_iconst hx hb dX1_finds_161 jx_ki1 ?_
        refine lv_iadd hx hb dX1_finds_162 ?_
        obtain ⟨j8, ej8, bj8, h⟩ := jx_ga_some h
        obtain ⟨S9, eS9, h⟩ := jx_nx_some h
        refine jf_iast hx hb hV hP hS jf_a0_4 ej8 bj8 eS9 dX1_finds_163 (fun H locs hP hS => ?_)
        refine lv_iconst hx hb dX1_finds_164 jx_ki1 ?_
        obtain ⟨y10, ey10, h⟩ := jx_nx_some h
        refine jx_topi ey10 ?_
        refine lv_istore (lv' := [(5, .int y10), (0, .ref (E.1 0)), (1, .int x1), (6, .int x6), (7, .long x7), (9, .int x9)]) hx hb dX1_finds_165 hl (Nat.le_of_ble_eq_true rfl) rfl (fun ls hl => ?_)
        exact jf_finds_b167_ok hX F hr57 hr68 hr102 _ _ _ _ _ _ h _ _ _ hP hS (lv_sub hl [1, 2, 0, 3, 4, 5] rfl)
      · rw [if_neg c6] at h
        refine lv_goto (tgt := 167) hx hb dX1_finds_145 rfl ?_
        exact jf_finds_b167_ok hX F hr57 hr68 hr102 _ _ _ _ _ _ h _ _ _ hP hS hl
theorem jf_finds_h102_ok {out : Int32 × jf_S} (hX : jf_Ok RX1 p R s m args meth c A D E cX1_finds 10 (some .boolean) 4) (F : Nat) {r57 : Int32 × Int32 × jf_S → Option (Int32 × jf_S)} (hr57 : ∀ a, r57 a = some out → jf_J p l e R s m args below meth c A D E fo pl 10 (jf_Qi below args s A D E fo pl out) 57 [(0, .ref (E.1 0)), (1, .int a.1), (5, .int a.2.1)] [] a.2.2) {r68 : Int32 × Int32 × Int32 × jf_S → Option (Int32 × jf_S)} (hr68 : ∀ a, r68 a = some out → jf_J p l e R s m args below meth c A D E fo pl 10 (jf_Qi below args s A D E fo pl out) 68 [(0, .ref (E.1 0)), (1, .int a.1), (5, .int a.2.1), (6, .int a.2.2.1)] [] a.2.2.2) (n : Nat) (a : Int32 × Int32 × Int32 × Int64 × Int32 × jf_S) (h : jf_finds_h102 F r57 r68 n a = some out) : jf_J p l e R s m args below meth c A D E fo pl 10 (jf_Qi below args s A D E fo pl out) 102 [(0, .ref (E.1 0)), (1, .int a.1), (5, .int a.2.1), (6, .int a.2.2.1), (7, .long a.2.2.2.1), (9, .int a.2.2.2.2.1)] [] a.2.2.2.2.2 :=
  jx_loop_ind (J := fun a => jf_J p l e R s m args below meth c A D E fo pl 10 (jf_Qi below args s A D E fo pl out) 102 [(0, .ref (E.1 0)), (1, .int a.1), (5, .int a.2.1), (6, .int a.2.2.1), (7, .long a.2.2.2.1), (9, .int a.2.2.2.2.1)] [] a.2.2.2.2.2) (fun r hr a h => jf_finds_L102_ok hX F hr57 hr68 hr a.1 a.2.1 a.2.2.1 a.2.2.2.1 a.2.2.2.2.1 a.2.2.2.2.2 h) n a h
theorem jf_finds_L68_ok {out : Int32 × jf_S} (hX : jf_Ok RX1 p R s m args meth c A D E cX1_finds 10 (some .boolean) 4) (F : Nat) {r57 : Int32 × Int32 × jf_S → Option (Int32 × jf_S)} (hr57 : ∀ a, r57 a = some out → jf_J p l e R s m args below meth c A D E fo pl 10 (jf_Qi below args s A D E fo pl out) 57 [(0, .ref (E.1 0)), (1, .int a.1), (5, .int a.2.1)] [] a.2.2) {r68 : Int32 × Int32 × Int32 × jf_S → Option (Int32 × jf_S)} (hr68 : ∀ a, r68 a = some out → jf_J p l e R s m args below meth c A D E fo pl 10 (jf_Qi below args s A D E fo pl out) 68 [(0, .ref (E.1 0)), (1, .int a.1), (5, .int a.2.1), (6, .int a.2.2.1)] [] a.2.2.2) (x1 : Int32) (x5 : Int32) (x6 : Int32) (S : jf_S) (h : jf_finds_L68 F r57 r68 x1 x5 x6 S = some out) : jf_J p l e R s m args below meth c A D E fo pl 10 (jf_Qi below args s A D E fo pl out) 68 [(0, .ref (E.1 0)), (1, .int x1), (5, .int x5), (6, .int x6)] [] S := by
  intro H locs ls hP hS hl
  have hX0 := hX
  obtain ⟨hx, hb, hml, hown, hts, hlk, hr, hlv, hV, het⟩ := hX0
  unfold jf_finds_L68 at h
  refine lv_iload hx hb dX1_finds_68 (lv_at hl 3 rfl) ?_
  refine lv_aload_n hx hb dX1_finds_70 rfl (lv_at hl 0 rfl) ?_
  refine jf_get hx hb hts in_X1 hown hV hP (ci := 1) (k := 1) jf_o0 rfl (by decide) (hts _ q455) rfl rfl dX1_finds_71 ?_
  refine jf_getN hx hb hts in_X4 hown hV hP (ci := 3) (k := 13) (jf_oP (Or.inl rfl)) rfl (by decide) (jf_l_X1_70 hV.2.2.1) rfl rfl dX1_finds_74 ?_
  refine lv_icmp_ge (tgt := 179) hx hb dX1_finds_77 rfl (fun c1 => ?_) (fun c1 => ?_)
  · rw [if_pos c1] at h
    refine lv_goto (tgt := 57) hx hb dX1_finds_179 rfl ?_
    exact hr57 _ h _ _ _ hP hS (lv_sub hl [0, 1, 2] rfl)
  · rw [if_neg c1] at h
    refine lv_aload_n hx hb dX1_finds_80 rfl (lv_at hl 0 rfl) ?_
    refine jf_get hx hb hts in_X1 hown hV hP (ci := 1) (k := 1) jf_o0 rfl (by decide) (hts _ q455) rfl rfl dX1_finds_81 ?_
    refine lv_iload hx hb dX1_finds_84 (lv_at hl 3 rfl) ?_
    refine lv_aload_n hx hb dX1_finds_86 rfl (lv_at hl 0 rfl) ?_
    refine jf_get hx hb hts in_X1 hown hV hP (ci := 1) (k := 1) jf_o0 rfl (by decide) (hts _ q455) rfl rfl dX1_finds_87 ?_
    refine jf_getN hx hb hts in_X4 hown hV hP (ci := 3) (k := 1) (jf_oP (Or.inl rfl)) rfl (by decide) (jf_l_X1_128 hV.2.2.1) rfl rfl dX1_finds_90 ?_
    refine lv_iload_n hx hb dX1_finds_93 rfl (lv_at hl 1 rfl) ?_
    obtain ⟨q2, eq2, h⟩ := jx_bi_some h
    refine jf_callL hx hb hml hown hts hlv hV (jp_may_met (Or.inl rfl) (Or.inl ⟨rfl, rfl⟩) eq2) jp_may_g_X1 jp_may_d (As := [.int x6, .ref (E.2.1 3 1), .int x1]) (Nat.le_of_ble_eq_true rfl) (Nat.le_of_ble_eq_true rfl) hP hS (ci := 3) (jf_oP (Or.inl rfl)) rfl hl.1 rfl rfl (lv_room (Nat.le_of_ble_eq_true rfl)) dX1_finds_94 (fun H locs hP hS => ?_)
    obtain ⟨y3, ey3, h⟩ := jx_nx_some h
    refine jx_topl ey3 ?_
    refine lv_lstore (lv' := [(7, .long y3), (0, .ref (E.1 0)), (1, .int x1), (5, .int x5), (6, .int x6)]) hx hb dX1_finds_97 hl (Nat.le_of_ble_eq_true rfl) rfl (fun ls hl => ?_)
    refine lv_iconst hx hb dX1_finds_99 jx_ki0 ?_
    obtain ⟨y4, ey4, h⟩ := jx_nx_some h
    refine jx_topi ey4 ?_
    refine lv_istore (lv' := [(9, .int y4), (7, .long y3), (0, .ref (E.1 0)), (1, .int x1), (5, .int x5), (6, .int x6)]) hx hb dX1_finds_100 hl (Nat.le_of_ble_eq_true rfl) rfl (fun ls hl => ?_)
    exact jf_finds_h102_ok hX F hr57 hr68 F _ h _ _ _ hP hS (lv_sub hl [2, 3, 4, 5, 1, 0] rfl)
theorem jf_finds_h68_ok {out : Int32 × jf_S} (hX : jf_Ok RX1 p R s m args meth c A D E cX1_finds 10 (some .boolean) 4) (F : Nat) {r57 : Int32 × Int32 × jf_S → Option (Int32 × jf_S)} (hr57 : ∀ a, r57 a = some out → jf_J p l e R s m args below meth c A D E fo pl 10 (jf_Qi below args s A D E fo pl out) 57 [(0, .ref (E.1 0)), (1, .int a.1), (5, .int a.2.1)] [] a.2.2) (n : Nat) (a : Int32 × Int32 × Int32 × jf_S) (h : jf_finds_h68 F r57 n a = some out) : jf_J p l e R s m args below meth c A D E fo pl 10 (jf_Qi below args s A D E fo pl out) 68 [(0, .ref (E.1 0)), (1, .int a.1), (5, .int a.2.1), (6, .int a.2.2.1)] [] a.2.2.2 :=
  jx_loop_ind (J := fun a => jf_J p l e R s m args below meth c A D E fo pl 10 (jf_Qi below args s A D E fo pl out) 68 [(0, .ref (E.1 0)), (1, .int a.1), (5, .int a.2.1), (6, .int a.2.2.1)] [] a.2.2.2) (fun r hr a h => jf_finds_L68_ok hX F hr57 hr a.1 a.2.1 a.2.2.1 a.2.2.2 h) n a h
theorem jf_finds_b288_ok {out : Int32 × jf_S} (hX : jf_Ok RX1 p R s m args meth c A D E cX1_finds 10 (some .boolean) 4) (F : Nat) {r225 : Int32 × Int32 × jf_S → Option (Int32 × jf_S)} (hr225 : ∀ a, r225 a = some out → jf_J p l e R s m args below meth c A D E fo pl 10 (jf_Qi below args s A D E fo pl out) 225 [(0, .ref (E.1 0)), (1, .int a.1), (6, .int a.2.1)] [] a.2.2) {r257 : Int32 × Int32 × Int64 × Int32 × jf_S → Option (Int32 × jf_S)} (hr257 : ∀ a, r257 a = some out → jf_J p l e R s m args below meth c A D E fo pl 10 (jf_Qi below args s A D E fo pl out) 257 [(0, .ref (E.1 0)), (1, .int a.1), (6, .int a.2.1), (7, .long a.2.2.1), (9, .int a.2.2.2.1)] [] a.2.2.2.2) (x1 : Int32) (x6 : Int32) (x7 : Int64) (x9 : Int32) (S : jf_S) (h : jf_finds_b288 F r225 r257 x1 x6 x7 x9 S = some out) : jf_J p l e R s m args below meth c A D E fo pl 10 (jf_Qi below args s A D E fo pl out) 288 [(0, .ref (E.1 0)), (1, .int x1), (6, .int x6), (7, .long x7), (9, .int x9)] [] S := by
  intro H locs ls hP hS hl
  have hX0 := hX
  obtain ⟨hx, hb, hml, hown, hts, hlk, hr, hlv, hV, het⟩ := hX0
  unfold jf_finds_b288 at h
  obtain ⟨y1, ey1, h⟩ := jx_nx_some h
  refine lv_iinc (v := y1) (lv' := [(9, .int y1), (0, .ref (E.1 0)), (1, .int x1), (6, .int x6), (7, .long x7)]) hx hb dX1_finds_288 hl (k := 4) rfl (jx_inc jx_ki1 ey1) (Nat.le_of_ble_eq_true rfl) rfl (fun ls hl => ?_)
  refine lv_goto (tgt := 257) hx hb dX1_finds_291 rfl ?_
  exact hr257 _ h _ _ _ hP hS (lv_sub hl [1, 2, 3, 4, 0] rfl)
theorem jf_finds_L257_ok {out : Int32 × jf_S} (hX : jf_Ok RX1 p R s m args meth c A D E cX1_finds 10 (some .boolean) 4) (F : Nat) {r225 : Int32 × Int32 × jf_S → Option (Int32 × jf_S)} (hr225 : ∀ a, r225 a = some out → jf_J p l e R s m args below meth c A D E fo pl 10 (jf_Qi below args s A D E fo pl out) 225 [(0, .ref (E.1 0)), (1, .int a.1), (6, .int a.2.1)] [] a.2.2) {r257 : Int32 × Int32 × Int64 × Int32 × jf_S → Option (Int32 × jf_S)} (hr257 : ∀ a, r257 a = some out → jf_J p l e R s m args below meth c A D E fo pl 10 (jf_Qi below args s A D E fo pl out) 257 [(0, .ref (E.1 0)), (1, .int a.1), (6, .int a.2.1), (7, .long a.2.2.1), (9, .int a.2.2.2.1)] [] a.2.2.2.2) (x1 : Int32) (x6 : Int32) (x7 : Int64) (x9 : Int32) (S : jf_S) (h : jf_finds_L257 F r225 r257 x1 x6 x7 x9 S = some out) : jf_J p l e R s m args below meth c A D E fo pl 10 (jf_Qi below args s A D E fo pl out) 257 [(0, .ref (E.1 0)), (1, .int x1), (6, .int x6), (7, .long x7), (9, .int x9)] [] S := by
  intro H locs ls hP hS hl
  have hX0 := hX
  obtain ⟨hx, hb, hml, hown, hts, hlk, hr, hlv, hV, het⟩ := hX0
  unfold jf_finds_L257 at h
  refine lv_lload hx hb dX1_finds_257 (lv_at hl 3 rfl) ?_
  refine lv_iload hx hb dX1_finds_259 (lv_at hl 4 rfl) ?_
  refine lv_lshr hx hb dX1_finds_261 rfl ?_
  refine lv_lconst hx hb dX1_finds_262 jx_kl1 ?_
  refine lv_land hx hb dX1_finds_263 ?_
  refine lv_lconst hx hb dX1_finds_264 jx_kl0 ?_
  refine W.lcmp hx hb dX1_finds_265 ?_
  refine lv_if_eq (tgt := 288) hx hb dX1_finds_266 rfl (fun c1 => ?_) (fun c1 => ?_)
  · rw [if_pos c1] at h
    exact jf_finds_b288_ok hX F hr225 hr257 _ _ _ _ _ h _ _ _ hP hS hl
  · rw [if_neg c1] at h
    refine lv_aload_n hx hb dX1_finds_269 rfl (lv_at hl 0 rfl) ?_
    refine jf_get hx hb hts in_X1 hown hV hP (ci := 1) (k := 4) jf_o0 rfl (by decide) (hts _ q458) rfl rfl dX1_finds_270 ?_
    refine lv_iload hx hb dX1_finds_273 (lv_at hl 4 rfl) ?_
    obtain ⟨j2, ej2, bj2, h⟩ := jx_ga_some h
    refine jf_iald hx hb hV hP jf_a0_4 ej2 bj2 dX1_finds_275 ?_
    refine lv_aload_n hx hb dX1_finds_276 rfl (lv_at hl 0 rfl) ?_
    refine jf_get hx hb hts in_X1 hown hV hP (ci := 1) (k := 4) jf_o0 rfl (by decide) (hts _ q458) rfl rfl dX1_finds_277 ?_
    refine lv_iload hx hb dX1_finds_280 (lv_at hl 2 rfl) ?_
    obtain ⟨j3, ej3, bj3, h⟩ := jx_ga_some h
    refine jf_iald hx hb hV hP jf_a0_4 ej3 bj3 dX1_finds_282 ?_
    refine lv_iconst hx hb dX1_finds_283 jx_ki1 ?_
    refine lv_isub hx hb dX1_finds_284 ?_
    refine lv_icmp_eq (tgt := 294) hx hb dX1_finds_285 rfl (fun c4 => ?_) (fun c4 => ?_)
    · rw [if_pos c4] at h
      refine lv_iload hx hb dX1_finds_294 (lv_at hl 4 rfl) ?_
      refine lv_istore (lv' := [(6, .int x9), (0, .ref (E.1 0)), (1, .int x1), (7, .long x7), (9, .int x9)]) hx hb dX1_finds_296 hl (Nat.le_of_ble_eq_true rfl) rfl (fun ls hl => ?_)
      refine lv_aload_n hx hb dX1_finds_298 rfl (lv_at hl 1 rfl) ?_
      refine jf_get hx hb hts in_X1 hown hV hP (ci := 1) (k := 5) jf_o0 rfl (by decide) (hts _ q459) rfl rfl dX1_finds_299 ?_
      refine lv_aload_n hx hb dX1_finds_302 rfl (lv_at hl 1 rfl) ?_
      refine jf_get hx hb hts in_X1 hown hV hP (ci := 1) (k := 10) jf_o0 rfl (by decide) (hts _ q464) rfl rfl dX1_finds_303 ?_
      refine lv_iload hx hb dX1_finds_306 (lv_at hl 0 rfl) ?_
      obtain ⟨j5, ej5, bj5, h⟩ := jx_ga_some h
      obtain ⟨S6, eS6, h⟩ := jx_nx_some h
      refine jf_iast hx hb hV hP hS jf_a0_5 ej5 bj5 eS6 dX1_finds_308 (fun H locs hP hS => ?_)
      refine lv_aload_n hx hb dX1_finds_309 rfl (lv_at hl 1 rfl) ?_
      refine lv_dup hx hb dX1_finds_310 rfl ?_
      refine jf_get hx hb hts in_X1 hown hV hP (ci := 1) (k := 10) jf_o0 rfl (by decide) (hts _ q464) rfl rfl dX1_finds_311 ?_
      refine lv_iconst hx hb dX1_finds_314 jx_ki1 ?_
      refine lv_iadd hx hb dX1_finds_315 ?_
      obtain ⟨S7, eS7, h⟩ := jx_nx_some h
      refine jf_put (S1 := S7) hx hb hts in_X1 tyX1_ok nmX1 hown hV hP hS (ci := 1) (k := 10) (by rw [eS7]; rfl) jf_o0 (by rw [eS7]; exact jf_s0_10 _) rfl (by decide) (hts _ q464) rfl rfl (tyX1_ok 10 (by decide)) ⟨rfl, rfl⟩ (Nat.le_of_ble_eq_true rfl) dX1_finds_316 (fun H locs hP hS => ?_)
      refine lv_goto (tgt := 225) hx hb dX1_finds_319 rfl ?_
      exact hr225 _ h _ _ _ hP hS (lv_sub hl [1, 2, 0] rfl)
    · rw [if_neg c4] at h
      exact jf_finds_b288_ok hX F hr225 hr257 _ _ _ _ _ h _ _ _ hP hS hl
theorem jf_finds_h257_ok {out : Int32 × jf_S} (hX : jf_Ok RX1 p R s m args meth c A D E cX1_finds 10 (some .boolean) 4) (F : Nat) {r225 : Int32 × Int32 × jf_S → Option (Int32 × jf_S)} (hr225 : ∀ a, r225 a = some out → jf_J p l e R s m args below meth c A D E fo pl 10 (jf_Qi below args s A D E fo pl out) 225 [(0, .ref (E.1 0)), (1, .int a.1), (6, .int a.2.1)] [] a.2.2) (n : Nat) (a : Int32 × Int32 × Int64 × Int32 × jf_S) (h : jf_finds_h257 F r225 n a = some out) : jf_J p l e R s m args below meth c A D E fo pl 10 (jf_Qi below args s A D E fo pl out) 257 [(0, .ref (E.1 0)), (1, .int a.1), (6, .int a.2.1), (7, .long a.2.2.1), (9, .int a.2.2.2.1)] [] a.2.2.2.2 :=
  jx_loop_ind (J := fun a => jf_J p l e R s m args below meth c A D E fo pl 10 (jf_Qi below args s A D E fo pl out) 257 [(0, .ref (E.1 0)), (1, .int a.1), (6, .int a.2.1), (7, .long a.2.2.1), (9, .int a.2.2.2.1)] [] a.2.2.2.2) (fun r hr a h => jf_finds_L257_ok hX F hr225 hr a.1 a.2.1 a.2.2.1 a.2.2.2.1 a.2.2.2.2 h) n a h
theorem jf_finds_L225_ok {out : Int32 × jf_S} (hX : jf_Ok RX1 p R s m args meth c A D E cX1_finds 10 (some .boolean) 4) (F : Nat) {r225 : Int32 × Int32 × jf_S → Option (Int32 × jf_S)} (hr225 : ∀ a, r225 a = some out → jf_J p l e R s m args below meth c A D E fo pl 10 (jf_Qi below args s A D E fo pl out) 225 [(0, .ref (E.1 0)), (1, .int a.1), (6, .int a.2.1)] [] a.2.2) (x1 : Int32) (x6 : Int32) (S : jf_S) (h : jf_finds_L225 F r225 x1 x6 S = some out) : jf_J p l e R s m args below meth c A D E fo pl 10 (jf_Qi below args s A D E fo pl out) 225 [(0, .ref (E.1 0)), (1, .int x1), (6, .int x6)] [] S := by
  intro H locs ls hP hS hl
  have hX0 := hX
  obtain ⟨hx, hb, hml, hown, hts, hlk, hr, hlv, hV, het⟩ := hX0
  unfold jf_finds_L225 at h
  refine lv_aload_n hx hb dX1_finds_225 rfl (lv_at hl 0 rfl) ?_
  refine jf_get hx hb hts in_X1 hown hV hP (ci := 1) (k := 4) jf_o0 rfl (by decide) (hts _ q458) rfl rfl dX1_finds_226 ?_
  refine lv_iload hx hb dX1_finds_229 (lv_at hl 2 rfl) ?_
  obtain ⟨j1, ej1, bj1, h⟩ := jx_ga_some h
  refine jf_iald hx hb hV hP jf_a0_4 ej1 bj1 dX1_finds_231 ?_
  refine lv_if_le (tgt := 322) hx hb dX1_finds_232 rfl (fun c2 => ?_) (fun c2 => ?_)
  · rw [if_pos c2] at h
    refine lv_iconst hx hb dX1_finds_322 jx_ki1 ?_
    exact jf_zret hx hb hr hlk hV hP hS jx_nz1 h dX1_finds_323
  · rw [if_neg c2] at h
    refine lv_aload_n hx hb dX1_finds_235 rfl (lv_at hl 0 rfl) ?_
    refine jf_get hx hb hts in_X1 hown hV hP (ci := 1) (k := 1) jf_o0 rfl (by decide) (hts _ q455) rfl rfl dX1_finds_236 ?_
    refine lv_iload hx hb dX1_finds_239 (lv_at hl 2 rfl) ?_
    refine lv_aload_n hx hb dX1_finds_241 rfl (lv_at hl 0 rfl) ?_
    refine jf_get hx hb hts in_X1 hown hV hP (ci := 1) (k := 1) jf_o0 rfl (by decide) (hts _ q455) rfl rfl dX1_finds_242 ?_
    refine jf_getN hx hb hts in_X4 hown hV hP (ci := 3) (k := 1) (jf_oP (Or.inl rfl)) rfl (by decide) (jf_l_X1_128 hV.2.2.1) rfl rfl dX1_finds_245 ?_
    refine lv_iload_n hx hb dX1_finds_248 rfl (lv_at hl 1 rfl) ?_
    obtain ⟨q3, eq3, h⟩ := jx_bi_some h
    refine jf_callL hx hb hml hown hts hlv hV (jp_may_met (Or.inl rfl) (Or.inl ⟨rfl, rfl⟩) eq3) jp_may_g_X1 jp_may_d (As := [.int x6, .ref (E.2.1 3 1), .int x1]) (Nat.le_of_ble_eq_true rfl) (Nat.le_of_ble_eq_true rfl) hP hS (ci := 3) (jf_oP (Or.inl rfl)) rfl hl.1 rfl rfl (lv_room (Nat.le_of_ble_eq_true rfl)) dX1_finds_249 (fun H locs hP hS => ?_)
    obtain ⟨y4, ey4, h⟩ := jx_nx_some h
    refine jx_topl ey4 ?_
    refine lv_lstore (lv' := [(7, .long y4), (0, .ref (E.1 0)), (1, .int x1), (6, .int x6)]) hx hb dX1_finds_252 hl (Nat.le_of_ble_eq_true rfl) rfl (fun ls hl => ?_)
    refine lv_iconst hx hb dX1_finds_254 jx_ki0 ?_
    obtain ⟨y5, ey5, h⟩ := jx_nx_some h
    refine jx_topi ey5 ?_
    refine lv_istore (lv' := [(9, .int y5), (7, .long y4), (0, .ref (E.1 0)), (1, .int x1), (6, .int x6)]) hx hb dX1_finds_255 hl (Nat.le_of_ble_eq_true rfl) rfl (fun ls hl => ?_)
    exact jf_finds_h257_ok hX F hr225 F _ h _ _ _ hP hS (lv_sub hl [2, 3, 4, 1, 0] rfl)
theorem jf_finds_h225_ok {out : Int32 × jf_S} (hX : jf_Ok RX1 p R s m args meth c A D E cX1_finds 10 (some .boolean) 4) (F : Nat) (n : Nat) (a : Int32 × Int32 × jf_S) (h : jf_finds_h225 F n a = some out) : jf_J p l e R s m args below meth c A D E fo pl 10 (jf_Qi below args s A D E fo pl out) 225 [(0, .ref (E.1 0)), (1, .int a.1), (6, .int a.2.1)] [] a.2.2 :=
  jx_loop_ind (J := fun a => jf_J p l e R s m args below meth c A D E fo pl 10 (jf_Qi below args s A D E fo pl out) 225 [(0, .ref (E.1 0)), (1, .int a.1), (6, .int a.2.1)] [] a.2.2) (fun r hr a h => jf_finds_L225_ok hX F hr a.1 a.2.1 a.2.2 h) n a h
theorem jf_finds_L57_ok {out : Int32 × jf_S} (hX : jf_Ok RX1 p R s m args meth c A D E cX1_finds 10 (some .boolean) 4) (F : Nat) {r57 : Int32 × Int32 × jf_S → Option (Int32 × jf_S)} (hr57 : ∀ a, r57 a = some out → jf_J p l e R s m args below meth c A D E fo pl 10 (jf_Qi below args s A D E fo pl out) 57 [(0, .ref (E.1 0)), (1, .int a.1), (5, .int a.2.1)] [] a.2.2) (x1 : Int32) (x5 : Int32) (S : jf_S) (h : jf_finds_L57 F r57 x1 x5 S = some out) : jf_J p l e R s m args below meth c A D E fo pl 10 (jf_Qi below args s A D E fo pl out) 57 [(0, .ref (E.1 0)), (1, .int x1), (5, .int x5)] [] S := by
  intro H locs ls hP hS hl
  have hX0 := hX
  obtain ⟨hx, hb, hml, hown, hts, hlk, hr, hlv, hV, het⟩ := hX0
  unfold jf_finds_L57 at h
  refine lv_iload hx hb dX1_finds_57 (lv_at hl 2 rfl) ?_
  refine lv_if_eq (tgt := 182) hx hb dX1_finds_59 rfl (fun c1 => ?_) (fun c1 => ?_)
  · rw [if_pos c1] at h
    refine lv_aload_n hx hb dX1_finds_182 rfl (lv_at hl 0 rfl) ?_
    refine lv_iconst hx hb dX1_finds_183 jx_ki0 ?_
    obtain ⟨S2, eS2, h⟩ := jx_nx_some h
    refine jf_put (S1 := S2) hx hb hts in_X1 tyX1_ok nmX1 hown hV hP hS (ci := 1) (k := 10) (by rw [eS2]; rfl) jf_o0 (by rw [eS2]; exact jf_s0_10 _) rfl (by decide) (hts _ q464) rfl rfl (tyX1_ok 10 (by decide)) ⟨rfl, rfl⟩ (Nat.le_of_ble_eq_true rfl) dX1_finds_184 (fun H locs hP hS => ?_)
    refine lv_aload_n hx hb dX1_finds_187 rfl (lv_at hl 0 rfl) ?_
    refine jf_get hx hb hts in_X1 hown hV hP (ci := 1) (k := 1) jf_o0 rfl (by decide) (hts _ q455) rfl rfl dX1_finds_188 ?_
    refine jf_getN hx hb hts in_X4 hown hV hP (ci := 3) (k := 13) (jf_oP (Or.inl rfl)) rfl (by decide) (jf_l_X1_70 hV.2.2.1) rfl rfl dX1_finds_191 ?_
    refine lv_if_eq (tgt := 208) hx hb dX1_finds_194 rfl (fun c3 => ?_) (fun c3 => ?_)
    · rw [if_pos c3] at h
      refine lv_iconst hx hb dX1_finds_208 jx_ki0 ?_
      exact jf_zret hx hb hr hlk hV hP hS jx_nz0 h dX1_finds_209
    · rw [if_neg c3] at h
      refine lv_aload_n hx hb dX1_finds_197 rfl (lv_at hl 0 rfl) ?_
      refine jf_get hx hb hts in_X1 hown hV hP (ci := 1) (k := 4) jf_o0 rfl (by decide) (hts _ q458) rfl rfl dX1_finds_198 ?_
      refine lv_iconst hx hb dX1_finds_201 jx_ki0 ?_
      obtain ⟨j4, ej4, bj4, h⟩ := jx_ga_some h
      refine jf_iald hx hb hV hP jf_a0_4 ej4 bj4 dX1_finds_202 ?_
      refine lv_bipush hx hb dX1_finds_203 jx_kb40 ?_
      refine lv_icmp_ne (tgt := 210) hx hb dX1_finds_205 rfl (fun c5 => ?_) (fun c5 => ?_)
      · rw [if_neg c5] at h
        refine lv_iconst hx hb dX1_finds_210 jx_ki0 ?_
        obtain ⟨y6, ey6, h⟩ := jx_nx_some h
        refine jx_topi ey6 ?_
        refine lv_istore (lv' := [(6, .int y6), (0, .ref (E.1 0)), (1, .int x1), (5, .int x5)]) hx hb dX1_finds_211 hl (Nat.le_of_ble_eq_true rfl) rfl (fun ls hl => ?_)
        refine lv_aload_n hx hb dX1_finds_213 rfl (lv_at hl 1 rfl) ?_
        refine jf_get hx hb hts in_X1 hown hV hP (ci := 1) (k := 5) jf_o0 rfl (by decide) (hts _ q459) rfl rfl dX1_finds_214 ?_
        refine lv_iconst hx hb dX1_finds_217 jx_ki0 ?_
        refine lv_iconst hx hb dX1_finds_218 jx_ki0 ?_
        obtain ⟨j7, ej7, bj7, h⟩ := jx_ga_some h
        obtain ⟨S8, eS8, h⟩ := jx_nx_some h
        refine jf_iast hx hb hV hP hS jf_a0_5 ej7 bj7 eS8 dX1_finds_219 (fun H locs hP hS => ?_)
        refine lv_aload_n hx hb dX1_finds_220 rfl (lv_at hl 1 rfl) ?_
        refine lv_iconst hx hb dX1_finds_221 jx_ki1 ?_
        obtain ⟨S9, eS9, h⟩ := jx_nx_some h
        refine jf_put (S1 := S9) hx hb hts in_X1 tyX1_ok nmX1 hown hV hP hS (ci := 1) (k := 10) (by rw [eS9]; rfl) jf_o0 (by rw [eS9]; exact jf_s0_10 _) rfl (by decide) (hts _ q464) rfl rfl (tyX1_ok 10 (by decide)) ⟨rfl, rfl⟩ (Nat.le_of_ble_eq_true rfl) dX1_finds_222 (fun H locs hP hS => ?_)
        exact jf_finds_h225_ok hX F F _ h _ _ _ hP hS (lv_sub hl [1, 2, 0] rfl)
      · rw [if_pos c5] at h
        refine lv_iconst hx hb dX1_finds_208 jx_ki0 ?_
        exact jf_zret hx hb hr hlk hV hP hS jx_nz0 h dX1_finds_209
  · rw [if_neg c1] at h
    refine lv_iconst hx hb dX1_finds_62 jx_ki0 ?_
    obtain ⟨y10, ey10, h⟩ := jx_nx_some h
    refine jx_topi ey10 ?_
    refine lv_istore (lv' := [(5, .int y10), (0, .ref (E.1 0)), (1, .int x1)]) hx hb dX1_finds_63 hl (Nat.le_of_ble_eq_true rfl) rfl (fun ls hl => ?_)
    refine lv_iconst hx hb dX1_finds_65 jx_ki0 ?_
    obtain ⟨y11, ey11, h⟩ := jx_nx_some h
    refine jx_topi ey11 ?_
    refine lv_istore (lv' := [(6, .int y11), (5, .int y10), (0, .ref (E.1 0)), (1, .int x1)]) hx hb dX1_finds_66 hl (Nat.le_of_ble_eq_true rfl) rfl (fun ls hl => ?_)
    exact jf_finds_h68_ok hX F hr57 F _ h _ _ _ hP hS (lv_sub hl [2, 3, 1, 0] rfl)
theorem jf_finds_h57_ok {out : Int32 × jf_S} (hX : jf_Ok RX1 p R s m args meth c A D E cX1_finds 10 (some .boolean) 4) (F : Nat) (n : Nat) (a : Int32 × Int32 × jf_S) (h : jf_finds_h57 F n a = some out) : jf_J p l e R s m args below meth c A D E fo pl 10 (jf_Qi below args s A D E fo pl out) 57 [(0, .ref (E.1 0)), (1, .int a.1), (5, .int a.2.1)] [] a.2.2 :=
  jx_loop_ind (J := fun a => jf_J p l e R s m args below meth c A D E fo pl 10 (jf_Qi below args s A D E fo pl out) 57 [(0, .ref (E.1 0)), (1, .int a.1), (5, .int a.2.1)] [] a.2.2) (fun r hr a h => jf_finds_L57_ok hX F hr a.1 a.2.1 a.2.2 h) n a h
theorem jf_finds_L12_ok {out : Int32 × jf_S} (hX : jf_Ok RX1 p R s m args meth c A D E cX1_finds 10 (some .boolean) 4) (F : Nat) {r12 : Int32 × Int64 × Int32 × jf_S → Option (Int32 × jf_S)} (hr12 : ∀ a, r12 a = some out → jf_J p l e R s m args below meth c A D E fo pl 10 (jf_Qi below args s A D E fo pl out) 12 [(0, .ref (E.1 0)), (1, .int a.1), (3, .long a.2.1), (5, .int a.2.2.1)] [] a.2.2.2) (x1 : Int32) (x3 : Int64) (x5 : Int32) (S : jf_S) (h : jf_finds_L12 F r12 x1 x3 x5 S = some out) : jf_J p l e R s m args below meth c A D E fo pl 10 (jf_Qi below args s A D E fo pl out) 12 [(0, .ref (E.1 0)), (1, .int x1), (3, .long x3), (5, .int x5)] [] S := by
  intro H locs ls hP hS hl
  have hX0 := hX
  obtain ⟨hx, hb, hml, hown, hts, hlk, hr, hlv, hV, het⟩ := hX0
  unfold jf_finds_L12 at h
  refine lv_iload hx hb dX1_finds_12 (lv_at hl 3 rfl) ?_
  refine lv_aload_n hx hb dX1_finds_14 rfl (lv_at hl 0 rfl) ?_
  refine jf_get hx hb hts in_X1 hown hV hP (ci := 1) (k := 1) jf_o0 rfl (by decide) (hts _ q455) rfl rfl dX1_finds_15 ?_
  refine jf_getN hx hb hts in_X4 hown hV hP (ci := 3) (k := 13) (jf_oP (Or.inl rfl)) rfl (by decide) (jf_l_X1_70 hV.2.2.1) rfl rfl dX1_finds_18 ?_
  refine lv_icmp_ge (tgt := 54) hx hb dX1_finds_21 rfl (fun c1 => ?_) (fun c1 => ?_)
  · rw [if_pos c1] at h
    refine lv_iconst hx hb dX1_finds_54 jx_ki1 ?_
    obtain ⟨y2, ey2, h⟩ := jx_nx_some h
    refine jx_topi ey2 ?_
    refine lv_istore (lv' := [(5, .int y2), (0, .ref (E.1 0)), (1, .int x1), (3, .long x3)]) hx hb dX1_finds_55 hl (Nat.le_of_ble_eq_true rfl) rfl (fun ls hl => ?_)
    exact jf_finds_h57_ok hX F F _ h _ _ _ hP hS (lv_sub hl [1, 2, 0] rfl)
  · rw [if_neg c1] at h
    refine lv_aload_n hx hb dX1_finds_24 rfl (lv_at hl 0 rfl) ?_
    refine jf_get hx hb hts in_X1 hown hV hP (ci := 1) (k := 4) jf_o0 rfl (by decide) (hts _ q458) rfl rfl dX1_finds_25 ?_
    refine lv_iload hx hb dX1_finds_28 (lv_at hl 3 rfl) ?_
    refine lv_lload_n hx hb dX1_finds_30 rfl (lv_at hl 2 rfl) ?_
    refine lv_iload hx hb dX1_finds_31 (lv_at hl 3 rfl) ?_
    refine lv_lshr hx hb dX1_finds_33 rfl ?_
    refine lv_lconst hx hb dX1_finds_34 jx_kl1 ?_
    refine lv_land hx hb dX1_finds_35 ?_
    refine lv_lconst hx hb dX1_finds_36 jx_kl1 ?_
    refine W.lcmp hx hb dX1_finds_37 ?_
    refine lv_if_ne (tgt := 45) hx hb dX1_finds_38 rfl (fun c3 => ?_) (fun c3 => ?_)
    · rw [if_neg c3] at h
      refine lv_bipush hx hb dX1_finds_45 jx_kb40 ?_
      exact jf_finds_b47_ok hX F hr12 _ _ _ _ _ _ h _ _ _ hP hS hl
    · rw [if_pos c3] at h
      refine lv_iconst hx hb dX1_finds_41 jx_ki0 ?_
      refine lv_goto (tgt := 47) hx hb dX1_finds_42 rfl ?_
      exact jf_finds_b47_ok hX F hr12 _ _ _ _ _ _ h _ _ _ hP hS hl
theorem jf_finds_h12_ok {out : Int32 × jf_S} (hX : jf_Ok RX1 p R s m args meth c A D E cX1_finds 10 (some .boolean) 4) (F : Nat) (n : Nat) (a : Int32 × Int64 × Int32 × jf_S) (h : jf_finds_h12 F n a = some out) : jf_J p l e R s m args below meth c A D E fo pl 10 (jf_Qi below args s A D E fo pl out) 12 [(0, .ref (E.1 0)), (1, .int a.1), (3, .long a.2.1), (5, .int a.2.2.1)] [] a.2.2.2 :=
  jx_loop_ind (J := fun a => jf_J p l e R s m args below meth c A D E fo pl 10 (jf_Qi below args s A D E fo pl out) 12 [(0, .ref (E.1 0)), (1, .int a.1), (3, .long a.2.1), (5, .int a.2.2.1)] [] a.2.2.2) (fun r hr a h => jf_finds_L12_ok hX F hr a.1 a.2.1 a.2.2.1 a.2.2.2 h) n a h
theorem jf_finds_ok {out : Int32 × jf_S} (hX : jf_Ok RX1 p R s m args meth c A D E cX1_finds 10 (some .boolean) 4) (F : Nat) (x1 : Int32) (x2 : Int32) (S : jf_S) (h : jf_finds F x1 x2 S = some out) : jf_J p l e R s m args below meth c A D E fo pl 10 (jf_Qi below args s A D E fo pl out) 0 [(0, .ref (E.1 0)), (1, .int x1), (2, .int x2)] [] S := by
  intro H locs ls hP hS hl
  have hX0 := hX
  obtain ⟨hx, hb, hml, hown, hts, hlk, hr, hlv, hV, het⟩ := hX0
  unfold jf_finds at h
  refine lv_aload_n hx hb dX1_finds_0 rfl (lv_at hl 0 rfl) ?_
  refine jf_get hx hb hts in_X1 hown hV hP (ci := 1) (k := 1) jf_o0 rfl (by decide) (hts _ q455) rfl rfl dX1_finds_1 ?_
  refine lv_iload_n hx hb dX1_finds_4 rfl (lv_at hl 2 rfl) ?_
  obtain ⟨q1, eq1, h⟩ := jx_bi_some h
  refine jf_callL hx hb hml hown hts hlv hV (jp_doors_met (Or.inl rfl) eq1) jp_doors_g_X1 jp_doors_d (As := [.int x2]) (Nat.le_of_ble_eq_true rfl) (Nat.le_of_ble_eq_true rfl) hP hS (ci := 3) (jf_oP (Or.inl rfl)) rfl hl.1 rfl rfl (lv_room (Nat.le_of_ble_eq_true rfl)) dX1_finds_5 (fun H locs hP hS => ?_)
  obtain ⟨y2, ey2, h⟩ := jx_nx_some h
  refine jx_topl ey2 ?_
  refine lv_lstore_n (lv' := [(3, .long y2), (0, .ref (E.1 0)), (1, .int x1), (2, .int x2)]) hx hb dX1_finds_8 rfl hl (Nat.le_of_ble_eq_true rfl) rfl (fun ls hl => ?_)
  refine lv_iconst hx hb dX1_finds_9 jx_ki0 ?_
  obtain ⟨y3, ey3, h⟩ := jx_nx_some h
  refine jx_topi ey3 ?_
  refine lv_istore (lv' := [(5, .int y3), (3, .long y2), (0, .ref (E.1 0)), (1, .int x1), (2, .int x2)]) hx hb dX1_finds_10 hl (Nat.le_of_ble_eq_true rfl) rfl (fun ls hl => ?_)
  exact jf_finds_h12_ok hX F F _ h _ _ _ hP hS (lv_sub hl [2, 3, 1, 0] rfl)
theorem jf_finds_met {l : Launch} {D : va_G} {E : jf_E} {A : Nat → Prop} {fo : Nat → Nat → Option Nat} {pl : va_W} {F : Nat} {x1 : Int32} {x2 : Int32} {S : jf_S} {out : Int32 × jf_S} (h : jf_finds F x1 x2 S = some out) : jf_Mi l D E A fo pl yX1_finds cX1_finds 10 (some .boolean) 4 [.ref (E.1 0), .int x1, .int x2] S out :=
  jf_Mi_of (own := RX1) ⟨by decide, rfl, Nat.le_of_ble_eq_true rfl⟩ (fun hX => jf_finds_ok hX F x1 x2 S h)
theorem jf_can_g_X1 : GoodIn lw_all (wsV RX1 275 RX1 yX1_can (ws_ yX1_can cX1_can 3 (some .boolean))) := lw_V q928 q930 qs14 q102 q931
theorem jf_can_d : yX1_can.cls = RX1 ∧ yX1_can.cls ≠ "java/lang/invoke/MethodHandle" ∧ yX1_can.cls ≠ "java/lang/invoke/VarHandle" ∧ (parseMethodDescriptor yX1_can.desc).map (fun d => d.parameters.length) = some 2 := by decide +kernel
theorem jf_can_ok {out : Int32 × jf_S} (hX : jf_Ok RX1 p R s m args meth c A D E cX1_can 3 (some .boolean) 0) (F : Nat) (x1 : Int32) (x2 : Int32) (S : jf_S) (h : jf_can F x1 x2 S = some out) : jf_J p l e R s m args below meth c A D E fo pl 3 (jf_Qi below args s A D E fo pl out) 0 [(0, .ref (E.1 0)), (1, .int x1), (2, .int x2)] [] S := by
  intro H locs ls hP hS hl
  have hX0 := hX
  obtain ⟨hx, hb, hml, hown, hts, hlk, hr, hlv, hV, het⟩ := hX0
  unfold jf_can at h
  refine lv_iload_n hx hb dX1_can_0 rfl (lv_at hl 2 rfl) ?_
  refine lv_iconst hx hb dX1_can_1 jx_kim1 ?_
  refine lv_icmp_eq (tgt := 26) hx hb dX1_can_2 rfl (fun c1 => ?_) (fun c1 => ?_)
  · rw [if_pos c1] at h
    refine lv_iconst hx hb dX1_can_26 jx_ki0 ?_
    exact jf_zret hx hb hr hlk hV hP hS jx_nz0 h dX1_can_27
  · rw [if_neg c1] at h
    refine lv_aload_n hx hb dX1_can_5 rfl (lv_at hl 0 rfl) ?_
    refine jf_get hx hb hts in_X1 hown hV hP (ci := 1) (k := 1) jf_o0 rfl (by decide) (hts _ q455) rfl rfl dX1_can_6 ?_
    refine jf_getN hx hb hts in_X4 hown hV hP (ci := 3) (k := 3) (jf_oP (Or.inl rfl)) rfl (by decide) (jf_l_X1_230 hV.2.2.1) rfl rfl dX1_can_9 ?_
    refine lv_iload_n hx hb dX1_can_12 rfl (lv_at hl 1 rfl) ?_
    obtain ⟨j2, ej2, bj2, h⟩ := jx_ga_some h
    refine jf_iald hx hb hV hP (jf_aP3 (Or.inl rfl)) ej2 bj2 dX1_can_13 ?_
    refine lv_iload_n hx hb dX1_can_14 rfl (lv_at hl 2 rfl) ?_
    refine lv_ishr hx hb dX1_can_15 ?_
    refine lv_iconst hx hb dX1_can_16 jx_ki1 ?_
    refine lv_iand hx hb dX1_can_17 ?_
    refine lv_iconst hx hb dX1_can_18 jx_ki1 ?_
    refine lv_icmp_ne (tgt := 26) hx hb dX1_can_19 rfl (fun c3 => ?_) (fun c3 => ?_)
    · rw [if_neg c3] at h
      refine lv_iconst hx hb dX1_can_26 jx_ki0 ?_
      exact jf_zret hx hb hr hlk hV hP hS jx_nz0 h dX1_can_27
    · rw [if_pos c3] at h
      refine lv_iconst hx hb dX1_can_22 jx_ki1 ?_
      refine lv_goto (tgt := 27) hx hb dX1_can_23 rfl ?_
      exact jf_zret hx hb hr hlk hV hP hS jx_nz1 h dX1_can_27
theorem jf_can_met {l : Launch} {D : va_G} {E : jf_E} {A : Nat → Prop} {fo : Nat → Nat → Option Nat} {pl : va_W} {F : Nat} {x1 : Int32} {x2 : Int32} {S : jf_S} {out : Int32 × jf_S} (h : jf_can F x1 x2 S = some out) : jf_Mi l D E A fo pl yX1_can cX1_can 3 (some .boolean) 0 [.ref (E.1 0), .int x1, .int x2] S out :=
  jf_Mi_of (own := RX1) ⟨by decide, rfl, Nat.le_of_ble_eq_true rfl⟩ (fun hX => jf_can_ok hX F x1 x2 S h)
theorem jo12_needs_g_X1 : GoodIn lw_all (wsV RX1 279 RX12 yX12_needs (ws_ yX12_needs cX12_needs 5 (some .int))) := lw_V q932 q933 q934 q120 q935
theorem jo12_needs_d : yX12_needs.cls = RX12 ∧ yX12_needs.cls ≠ "java/lang/invoke/MethodHandle" ∧ yX12_needs.cls ≠ "java/lang/invoke/VarHandle" ∧ (parseMethodDescriptor yX12_needs.desc).map (fun d => d.parameters.length) = some 3 := by decide +kernel
theorem jo12_needs_b27_ok {out : Int32 × jf_S} (hX : jf_Ok RX12 p R s m args meth c A D E cX12_needs 5 (some .int) 0) (F : Nat) (x0 : jo_R) {x0a : Nat} (x0h : jo_m3 pl x0a x0) (x1 : Int32) (x2 : Int32) (x3 : Int32) (k0 : Int32) (S : jf_S) (h : jo12_needs_b27 F x0 x1 x2 x3 k0 S = some out) : jf_J p l e R s m args below meth c A D E fo pl 5 (jf_Qi below args s A D E fo pl out) 27 [(0, .ref x0a), (1, .int x1), (2, .int x2), (3, .int x3)] [.int k0] S := by
  intro H locs ls hP hS hl
  have hX0 := hX
  obtain ⟨hx, hb, hml, hown, hts, hlk, hr, hlv, hV, het⟩ := hX0
  unfold jo12_needs_b27 at h
  refine lv_istore (lv' := [(4, .int k0), (0, .ref x0a), (1, .int x1), (2, .int x2), (3, .int x3)]) hx hb dX12_needs_27 hl (Nat.le_of_ble_eq_true rfl) rfl (fun ls hl => ?_)
  refine lv_aload_n hx hb dX12_needs_29 rfl (lv_at hl 1 rfl) ?_
  obtain ⟨q1, bq1, dq1, hq1, aq1, cq1⟩ := jo_f3 (E := E) (S := S) (fo := fo) x0h
  refine jf_get hx hb hts in_X12 hown hV hP (ci := 9) (k := 3) hq1 rfl (by decide) (hts _ q1131) rfl rfl dX12_needs_30 ?_
  refine lv_bipush hx hb dX12_needs_33 jx_kb61 ?_
  refine lv_icmp_ne (tgt := 50) hx hb dX12_needs_35 rfl (fun c2 => ?_) (fun c2 => ?_)
  · rw [if_neg c2] at h
    refine lv_iload_n hx hb dX12_needs_50 rfl (lv_at hl 3 rfl) ?_
    refine lv_if_eq (tgt := 72) hx hb dX12_needs_51 rfl (fun c3 => ?_) (fun c3 => ?_)
    · rw [if_pos c3] at h
      refine lv_iload_n hx hb dX12_needs_72 rfl (lv_at hl 4 rfl) ?_
      exact jf_iret hx hb hr hlk hV hP hS h dX12_needs_73
    · rw [if_neg c3] at h
      refine lv_iload_n hx hb dX12_needs_54 rfl (lv_at hl 2 rfl) ?_
      refine lv_if_eq (tgt := 65) hx hb dX12_needs_55 rfl (fun c4 => ?_) (fun c4 => ?_)
      · rw [if_pos c4] at h
        refine lv_iload_n hx hb dX12_needs_65 rfl (lv_at hl 4 rfl) ?_
        refine lv_iload hx hb dX12_needs_66 (lv_at hl 0 rfl) ?_
        refine lv_iadd hx hb dX12_needs_68 ?_
        refine lv_goto (tgt := 73) hx hb dX12_needs_69 rfl ?_
        exact jf_iret hx hb hr hlk hV hP hS h dX12_needs_73
      · rw [if_neg c4] at h
        refine lv_iload_n hx hb dX12_needs_58 rfl (lv_at hl 4 rfl) ?_
        refine lv_iload hx hb dX12_needs_59 (lv_at hl 0 rfl) ?_
        refine lv_isub hx hb dX12_needs_61 ?_
        refine lv_goto (tgt := 73) hx hb dX12_needs_62 rfl ?_
        exact jf_iret hx hb hr hlk hV hP hS h dX12_needs_73
  · rw [if_pos c2] at h
    refine lv_iload_n hx hb dX12_needs_38 rfl (lv_at hl 3 rfl) ?_
    refine lv_if_eq (tgt := 46) hx hb dX12_needs_39 rfl (fun c5 => ?_) (fun c5 => ?_)
    · rw [if_pos c5] at h
      refine lv_iload_n hx hb dX12_needs_46 rfl (lv_at hl 4 rfl) ?_
      refine lv_iconst hx hb dX12_needs_47 jx_ki1 ?_
      refine lv_iadd hx hb dX12_needs_48 ?_
      exact jf_iret hx hb hr hlk hV hP hS h dX12_needs_49
    · rw [if_neg c5] at h
      refine lv_iload_n hx hb dX12_needs_42 rfl (lv_at hl 4 rfl) ?_
      refine lv_goto (tgt := 49) hx hb dX12_needs_43 rfl ?_
      exact jf_iret hx hb hr hlk hV hP hS h dX12_needs_49
theorem jo12_needs_ok {out : Int32 × jf_S} (hX : jf_Ok RX12 p R s m args meth c A D E cX12_needs 5 (some .int) 0) (F : Nat) (x0 : jo_R) {x0a : Nat} (x0h : jo_m3 pl x0a x0) (x1 : Int32) (x2 : Int32) (x3 : Int32) (S : jf_S) (h : jo12_needs F x0 x1 x2 x3 S = some out) : jf_J p l e R s m args below meth c A D E fo pl 5 (jf_Qi below args s A D E fo pl out) 0 [(0, .ref x0a), (1, .int x1), (2, .int x2), (3, .int x3)] [] S := by
  intro H locs ls hP hS hl
  have hX0 := hX
  obtain ⟨hx, hb, hml, hown, hts, hlk, hr, hlv, hV, het⟩ := hX0
  unfold jo12_needs at h
  refine lv_aload_n hx hb dX12_needs_0 rfl (lv_at hl 0 rfl) ?_
  obtain ⟨q1, bq1, dq1, hq1, aq1, cq1⟩ := jo_f3 (E := E) (S := S) (fo := fo) x0h
  refine jf_get hx hb hts in_X12 hown hV hP (ci := 9) (k := 3) hq1 rfl (by decide) (hts _ q1131) rfl rfl dX12_needs_1 ?_
  refine lv_bipush hx hb dX12_needs_4 jx_kb60 ?_
  refine lv_icmp_ne (tgt := 13) hx hb dX12_needs_6 rfl (fun c2 => ?_) (fun c2 => ?_)
  · rw [if_neg c2] at h
    refine lv_aload_n hx hb dX12_needs_13 rfl (lv_at hl 0 rfl) ?_
    obtain ⟨q3, bq3, dq3, hq3, aq3, cq3⟩ := jo_f3 (E := E) (S := S) (fo := fo) x0h
    refine jf_get hx hb hts in_X12 hown hV hP (ci := 9) (k := 3) hq3 rfl (by decide) (hts _ q1131) rfl rfl dX12_needs_14 ?_
    refine lv_bipush hx hb dX12_needs_17 jx_kb62 ?_
    refine lv_icmp_ne (tgt := 26) hx hb dX12_needs_19 rfl (fun c4 => ?_) (fun c4 => ?_)
    · rw [if_neg c4] at h
      refine lv_iconst hx hb dX12_needs_26 jx_ki0 ?_
      exact jo12_needs_b27_ok hX F _ x0h _ _ _ _ _ h _ _ _ hP hS hl
    · rw [if_pos c4] at h
      refine lv_iconst hx hb dX12_needs_22 jx_ki1 ?_
      refine lv_goto (tgt := 27) hx hb dX12_needs_23 rfl ?_
      exact jo12_needs_b27_ok hX F _ x0h _ _ _ _ _ h _ _ _ hP hS hl
  · rw [if_pos c2] at h
    refine lv_iconst hx hb dX12_needs_9 jx_kim1 ?_
    refine lv_goto (tgt := 27) hx hb dX12_needs_10 rfl ?_
    exact jo12_needs_b27_ok hX F _ x0h _ _ _ _ _ h _ _ _ hP hS hl
theorem jo12_needs_met {l : Launch} {D : va_G} {E : jf_E} {A : Nat → Prop} {fo : Nat → Nat → Option Nat} {pl : va_W} {F : Nat} {x0 : jo_R} {x0a : Nat} (x0h : jo_m3 pl x0a x0) {x1 : Int32} {x2 : Int32} {x3 : Int32} {S : jf_S} {out : Int32 × jf_S} (h : jo12_needs F x0 x1 x2 x3 S = some out) : jf_Mi l D E A fo pl yX12_needs cX12_needs 5 (some .int) 0 [.ref x0a, .int x1, .int x2, .int x3] S out :=
  jf_Mi_of (own := RX12) ⟨by decide, rfl, Nat.le_of_ble_eq_true rfl⟩ (fun hX => jo12_needs_ok hX F x0 x0h x1 x2 x3 S h)
theorem jf_bends_g_X1 : GoodIn lw_all (wsV RX1 297 RX1 yX1_bends (ws_ yX1_bends cX1_bends 9 none)) := lw_V q920 q922 qs13 q102 q923
theorem jf_bends_d : yX1_bends.cls = RX1 ∧ yX1_bends.cls ≠ "java/lang/invoke/MethodHandle" ∧ yX1_bends.cls ≠ "java/lang/invoke/VarHandle" ∧ (parseMethodDescriptor yX1_bends.desc).map (fun d => d.parameters.length) = some 3 := by decide +kernel
theorem jf_bends_b53_ok {out : jf_S} (hX : jf_Ok RX1 p R s m args meth c A D E cX1_bends 9 none 1) (F : Nat) (x1 : Int32) (x5 : jo_R) {x5a : Nat} (x5h : jo_m3 pl x5a x5) (k0 : Int32) (S : jf_S) (h : jf_bends_b53 F x1 x5 k0 S = some out) : jf_J p l e R s m args below meth c A D E fo pl 9 (jf_Qv below args s A D E fo pl out) 53 [(0, .ref (E.1 0)), (1, .int x1), (5, .ref x5a)] [.int k0] S := by
  intro H locs ls hP hS hl
  have hX0 := hX
  obtain ⟨hx, hb, hml, hown, hts, hlk, hr, hlv, hV, het⟩ := hX0
  unfold jf_bends_b53 at h
  refine lv_istore (lv' := [(6, .int k0), (0, .ref (E.1 0)), (1, .int x1), (5, .ref x5a)]) hx hb dX1_bends_53 hl (Nat.le_of_ble_eq_true rfl) rfl (fun ls hl => ?_)
  refine lv_aload hx hb dX1_bends_55 (lv_at hl 3 rfl) ?_
  obtain ⟨q1, bq1, dq1, hq1, aq1, cq1⟩ := jo_f3 (E := E) (S := S) (fo := fo) x5h
  refine jf_getN hx hb hts in_X12 hown hV hP (ci := 9) (k := 1) hq1 rfl (by decide) (jf_l_X1_254 hV.2.2.1) rfl rfl dX1_bends_57 ?_
  refine lv_aload_n hx hb dX1_bends_60 rfl (lv_at hl 1 rfl) ?_
  refine jf_get hx hb hts in_X1 hown hV hP (ci := 1) (k := 3) jf_o0 rfl (by decide) (hts _ q457) rfl rfl dX1_bends_61 ?_
  obtain ⟨q2, eq2, h⟩ := jx_bi_some h
  obtain ⟨q3, hq3⟩ := jf_pool (E := E) (S := S) (fo := fo) aq1
  refine jf_callI hx hb hml hown hts hlv hV (ja_of_met aq1 eq2) ja_of_g_X1 ja_of_d (As := [.ref (E.1 5)]) (Nat.le_of_ble_eq_true rfl) (Nat.le_of_ble_eq_true rfl) hP hS (ci := 5) hq3 rfl hl.1 rfl rfl (lv_room (Nat.le_of_ble_eq_true rfl)) dX1_bends_64 (fun H locs hP hS => ?_)
  obtain ⟨y4, ey4, h⟩ := jx_nx_some h
  refine jx_topi ey4 ?_
  refine lv_istore (lv' := [(7, .int y4), (6, .int k0), (0, .ref (E.1 0)), (1, .int x1), (5, .ref x5a)]) hx hb dX1_bends_67 hl (Nat.le_of_ble_eq_true rfl) rfl (fun ls hl => ?_)
  refine lv_aload hx hb dX1_bends_69 (lv_at hl 4 rfl) ?_
  obtain ⟨q5, bq5, dq5, hq5, aq5, cq5⟩ := jo_f3 (E := E) (S := q2.2) (fo := fo) x5h
  refine jf_getN hx hb hts in_X12 hown hV hP (ci := 9) (k := 2) hq5 rfl (by decide) (jf_l_X1_264 hV.2.2.1) rfl rfl dX1_bends_71 ?_
  refine lv_aload_n hx hb dX1_bends_74 rfl (lv_at hl 2 rfl) ?_
  refine jf_get hx hb hts in_X1 hown hV hP (ci := 1) (k := 3) jf_o0 rfl (by decide) (hts _ q457) rfl rfl dX1_bends_75 ?_
  obtain ⟨q6, eq6, h⟩ := jx_bi_some h
  obtain ⟨q7, hq7⟩ := jf_pool (E := E) (S := q2.2) (fo := fo) cq5
  refine jf_callI hx hb hml hown hts hlv hV (ja_of_met cq5 eq6) ja_of_g_X1 ja_of_d (As := [.ref (E.1 5)]) (Nat.le_of_ble_eq_true rfl) (Nat.le_of_ble_eq_true rfl) hP hS (ci := 5) hq7 rfl hl.1 rfl rfl (lv_room (Nat.le_of_ble_eq_true rfl)) dX1_bends_78 (fun H locs hP hS => ?_)
  obtain ⟨y8, ey8, h⟩ := jx_nx_some h
  refine jx_topi ey8 ?_
  refine lv_istore (lv' := [(8, .int y8), (7, .int y4), (6, .int k0), (0, .ref (E.1 0)), (1, .int x1), (5, .ref x5a)]) hx hb dX1_bends_81 hl (Nat.le_of_ble_eq_true rfl) rfl (fun ls hl => ?_)
  refine lv_iload hx hb dX1_bends_83 (lv_at hl 1 rfl) ?_
  refine lv_aload hx hb dX1_bends_85 (lv_at hl 5 rfl) ?_
  obtain ⟨q9, bq9, dq9, hq9, aq9, cq9⟩ := jo_f3 (E := E) (S := q6.2) (fo := fo) x5h
  refine jf_getN hx hb hts in_X12 hown hV hP (ci := 9) (k := 3) hq9 rfl (by decide) (jf_l_X1_267 hV.2.2.1) rfl rfl dX1_bends_87 ?_
  refine lv_iload hx hb dX1_bends_90 (lv_at hl 0 rfl) ?_
  obtain ⟨q10, eq10, h⟩ := jx_bi_some h
  refine jx_callSi hx hb hml hown hts (jf_ifHolds_met eq10) jf_ifHolds_g_X1 jf_ifHolds_d (As := [.int y4, .int (x5 8), .int y8]) (⟨Nat.le_trans (Nat.le_of_ble_eq_true rfl) hlv.1, Nat.le_trans (Nat.le_of_ble_eq_true rfl) hlv.2⟩) hl.1 rfl rfl (lv_room (Nat.le_of_ble_eq_true rfl)) dX1_bends_92 ⟨Nat.zero_le _, Nat.zero_le _⟩ ?_
  refine lv_iload hx hb dX1_bends_95 (lv_at hl 2 rfl) ?_
  refine lv_icmp_ne (tgt := 101) hx hb dX1_bends_97 rfl (fun c11 => ?_) (fun c11 => ?_)
  · rw [if_neg c11] at h
    refine lv_aload_n hx hb dX1_bends_101 rfl (lv_at hl 3 rfl) ?_
    refine lv_iload_n hx hb dX1_bends_102 rfl (lv_at hl 4 rfl) ?_
    refine lv_aload hx hb dX1_bends_103 (lv_at hl 5 rfl) ?_
    obtain ⟨q12, bq12, dq12, hq12, aq12, cq12⟩ := jo_f3 (E := E) (S := q6.2) (fo := fo) x5h
    refine jf_getN hx hb hts in_X12 hown hV hP (ci := 9) (k := 1) hq12 rfl (by decide) (jf_l_X1_254 hV.2.2.1) rfl rfl dX1_bends_105 ?_
    obtain ⟨q13, hq13⟩ := jf_pool (E := E) (S := q6.2) (fo := fo) aq12
    refine jf_getN hx hb hts in_X7 hown hV hP (ci := 5) (k := 0) hq13 rfl (by decide) (jf_l_X1_272 hV.2.2.1) rfl rfl dX1_bends_108 ?_
    obtain ⟨q14, eq14, h⟩ := jx_bi_some h
    refine jf_callI hx hb hml hown hts hlv hV (jf_can_met eq14) jf_can_g_X1 jf_can_d (As := [.int x1, .int (jo_ac (x5 6))]) (Nat.le_of_ble_eq_true rfl) (Nat.le_of_ble_eq_true rfl) hP hS (ci := 1) jf_o0 rfl hl.1 rfl rfl (lv_room (Nat.le_of_ble_eq_true rfl)) dX1_bends_111 (fun H locs hP hS => ?_)
    refine lv_if_eq (tgt := 146) hx hb dX1_bends_114 rfl (fun c15 => ?_) (fun c15 => ?_)
    · rw [if_pos c15] at h
      refine lv_aload_n hx hb dX1_bends_146 rfl (lv_at hl 3 rfl) ?_
      refine lv_iload_n hx hb dX1_bends_147 rfl (lv_at hl 4 rfl) ?_
      refine lv_aload hx hb dX1_bends_148 (lv_at hl 5 rfl) ?_
      obtain ⟨q16, bq16, dq16, hq16, aq16, cq16⟩ := jo_f3 (E := E) (S := q14.2) (fo := fo) x5h
      refine jf_getN hx hb hts in_X12 hown hV hP (ci := 9) (k := 2) hq16 rfl (by decide) (jf_l_X1_264 hV.2.2.1) rfl rfl dX1_bends_150 ?_
      obtain ⟨q17, hq17⟩ := jf_pool (E := E) (S := q14.2) (fo := fo) cq16
      refine jf_getN hx hb hts in_X7 hown hV hP (ci := 5) (k := 0) hq17 rfl (by decide) (jf_l_X1_272 hV.2.2.1) rfl rfl dX1_bends_153 ?_
      obtain ⟨q18, eq18, h⟩ := jx_bi_some h
      refine jf_callI hx hb hml hown hts hlv hV (jf_can_met eq18) jf_can_g_X1 jf_can_d (As := [.int x1, .int (jo_ac (x5 7))]) (Nat.le_of_ble_eq_true rfl) (Nat.le_of_ble_eq_true rfl) hP hS (ci := 1) jf_o0 rfl hl.1 rfl rfl (lv_room (Nat.le_of_ble_eq_true rfl)) dX1_bends_156 (fun H locs hP hS => ?_)
      refine lv_if_eq (tgt := 188) hx hb dX1_bends_159 rfl (fun c19 => ?_) (fun c19 => ?_)
      · rw [if_pos c19] at h
        refine lv_goto (tgt := 280) hx hb dX1_bends_188 rfl ?_
        exact jf_vret hx hb hr hlk hV hP hS h dX1_bends_280
      · rw [if_neg c19] at h
        refine lv_aload_n hx hb dX1_bends_162 rfl (lv_at hl 3 rfl) ?_
        refine jf_get hx hb hts in_X1 hown hV hP (ci := 1) (k := 3) jf_o0 rfl (by decide) (hts _ q457) rfl rfl dX1_bends_163 ?_
        refine jf_getN hx hb hts in_X5 hown hV hP (ci := 4) (k := 1) jf_o5 rfl (by decide) (jf_l_X1_226 hV.2.2.1) rfl rfl dX1_bends_166 ?_
        refine lv_aload hx hb dX1_bends_169 (lv_at hl 5 rfl) ?_
        obtain ⟨q20, bq20, dq20, hq20, aq20, cq20⟩ := jo_f3 (E := E) (S := q18.2) (fo := fo) x5h
        refine jf_getN hx hb hts in_X12 hown hV hP (ci := 9) (k := 2) hq20 rfl (by decide) (jf_l_X1_264 hV.2.2.1) rfl rfl dX1_bends_171 ?_
        obtain ⟨q21, hq21⟩ := jf_pool (E := E) (S := q18.2) (fo := fo) cq20
        refine jf_getN hx hb hts in_X7 hown hV hP (ci := 5) (k := 0) hq21 rfl (by decide) (jf_l_X1_272 hV.2.2.1) rfl rfl dX1_bends_174 ?_
        refine lv_aload hx hb dX1_bends_177 (lv_at hl 5 rfl) ?_
        refine lv_iconst hx hb dX1_bends_179 jx_ki1 ?_
        refine lv_iload hx hb dX1_bends_180 (lv_at hl 2 rfl) ?_
        refine lv_iload hx hb dX1_bends_182 (lv_at hl 1 rfl) ?_
        obtain ⟨q22, eq22, h⟩ := jx_bi_some h
        obtain ⟨q23, _, _, hq23, _, _⟩ := jo_f3 (E := E) (S := q18.2) (fo := fo) x5h
        refine jf_callI hx hb hml hown hts hlv hV (jo12_needs_met x5h eq22) jo12_needs_g_X1 jo12_needs_d (As := [.int (nI 1), .int k0, .int y4]) (Nat.le_of_ble_eq_true rfl) (Nat.le_of_ble_eq_true rfl) hP hS (ci := 9) hq23 rfl hl.1 rfl rfl (lv_room (Nat.le_of_ble_eq_true rfl)) dX1_bends_184 (fun H locs hP hS => ?_)
        obtain ⟨j24, ej24, bj24, h⟩ := jx_ga_some h
        obtain ⟨S25, eS25, h⟩ := jx_nx_some h
        refine jf_iast hx hb hV hP hS jf_a5_1 ej24 bj24 eS25 dX1_bends_187 (fun H locs hP hS => ?_)
        refine lv_goto (tgt := 280) hx hb dX1_bends_188 rfl ?_
        exact jf_vret hx hb hr hlk hV hP hS h dX1_bends_280
    · rw [if_neg c15] at h
      refine lv_aload_n hx hb dX1_bends_117 rfl (lv_at hl 3 rfl) ?_
      refine jf_get hx hb hts in_X1 hown hV hP (ci := 1) (k := 3) jf_o0 rfl (by decide) (hts _ q457) rfl rfl dX1_bends_118 ?_
      refine jf_getN hx hb hts in_X5 hown hV hP (ci := 4) (k := 1) jf_o5 rfl (by decide) (jf_l_X1_226 hV.2.2.1) rfl rfl dX1_bends_121 ?_
      refine lv_aload hx hb dX1_bends_124 (lv_at hl 5 rfl) ?_
      obtain ⟨q26, bq26, dq26, hq26, aq26, cq26⟩ := jo_f3 (E := E) (S := q14.2) (fo := fo) x5h
      refine jf_getN hx hb hts in_X12 hown hV hP (ci := 9) (k := 1) hq26 rfl (by decide) (jf_l_X1_254 hV.2.2.1) rfl rfl dX1_bends_126 ?_
      obtain ⟨q27, hq27⟩ := jf_pool (E := E) (S := q14.2) (fo := fo) aq26
      refine jf_getN hx hb hts in_X7 hown hV hP (ci := 5) (k := 0) hq27 rfl (by decide) (jf_l_X1_272 hV.2.2.1) rfl rfl dX1_bends_129 ?_
      refine lv_aload hx hb dX1_bends_132 (lv_at hl 5 rfl) ?_
      refine lv_iconst hx hb dX1_bends_134 jx_ki0 ?_
      refine lv_iload hx hb dX1_bends_135 (lv_at hl 2 rfl) ?_
      refine lv_iload hx hb dX1_bends_137 (lv_at hl 0 rfl) ?_
      obtain ⟨q28, eq28, h⟩ := jx_bi_some h
      obtain ⟨q29, _, _, hq29, _, _⟩ := jo_f3 (E := E) (S := q14.2) (fo := fo) x5h
      refine jf_callI hx hb hml hown hts hlv hV (jo12_needs_met x5h eq28) jo12_needs_g_X1 jo12_needs_d (As := [.int (nI 0), .int k0, .int y8]) (Nat.le_of_ble_eq_true rfl) (Nat.le_of_ble_eq_true rfl) hP hS (ci := 9) hq29 rfl hl.1 rfl rfl (lv_room (Nat.le_of_ble_eq_true rfl)) dX1_bends_139 (fun H locs hP hS => ?_)
      obtain ⟨j30, ej30, bj30, h⟩ := jx_ga_some h
      obtain ⟨S31, eS31, h⟩ := jx_nx_some h
      refine jf_iast hx hb hV hP hS jf_a5_1 ej30 bj30 eS31 dX1_bends_142 (fun H locs hP hS => ?_)
      refine lv_goto (tgt := 188) hx hb dX1_bends_143 rfl ?_
      refine lv_goto (tgt := 280) hx hb dX1_bends_188 rfl ?_
      exact jf_vret hx hb hr hlk hV hP hS h dX1_bends_280
  · rw [if_pos c11] at h
    exact jf_vret hx hb hr hlk hV hP hS h dX1_bends_100
theorem jf_bends_ok {out : jf_S} (hX : jf_Ok RX1 p R s m args meth c A D E cX1_bends 9 none 1) (F : Nat) (x1 : Int32) (x2 : Int32) (x3 : Int32) (S : jf_S) (h : jf_bends F x1 x2 x3 S = some out) : jf_J p l e R s m args below meth c A D E fo pl 9 (jf_Qv below args s A D E fo pl out) 0 [(0, .ref (E.1 0)), (1, .int x1), (2, .int x2), (3, .int x3)] [] S := by
  intro H locs ls hP hS hl
  have hX0 := hX
  obtain ⟨hx, hb, hml, hown, hts, hlk, hr, hlv, hV, het⟩ := hX0
  unfold jf_bends at h
  refine lv_aload_n hx hb dX1_bends_0 rfl (lv_at hl 0 rfl) ?_
  refine jf_get hx hb hts in_X1 hown hV hP (ci := 1) (k := 1) jf_o0 rfl (by decide) (hts _ q455) rfl rfl dX1_bends_1 ?_
  refine jf_getN hx hb hts in_X4 hown hV hP (ci := 3) (k := 0) (jf_oP (Or.inl rfl)) rfl (by decide) (jf_l_X1_81 hV.2.2.1) rfl rfl dX1_bends_4 ?_
  refine lv_iload_n hx hb dX1_bends_7 rfl (lv_at hl 2 rfl) ?_
  obtain ⟨j1, ej1, bj1, h⟩ := jx_ga_some h
  obtain ⟨r2, er2, h⟩ := jx_bi_some h
  refine jf_qald hx hb hV hP (jf_aP0 (Or.inl rfl)) ej1 bj1 er2 dX1_bends_8 (fun r2a r2h => ?_)
  refine lv_astore (lv' := [(4, .ref r2a), (0, .ref (E.1 0)), (1, .int x1), (2, .int x2), (3, .int x3)]) hx hb dX1_bends_9 hl (Nat.le_of_ble_eq_true rfl) rfl (fun ls hl => ?_)
  refine lv_aload hx hb dX1_bends_11 (lv_at hl 0 rfl) ?_
  obtain ⟨q3, eq3, h⟩ := jx_bi_some h
  refine jv_word_X1 hx hb hml hown hts hlv hV r2h eq3 (Nat.le_of_ble_eq_true rfl) hP hS hl.1 rfl rfl (lv_room (Nat.le_of_ble_eq_true rfl)) dX1_bends_13 (fun H locs hP hS => ?_)
  refine lv_iconst hx hb dX1_bends_16 jx_ki3 ?_
  refine lv_icmp_ne (tgt := 191) hx hb dX1_bends_17 rfl (fun c4 => ?_) (fun c4 => ?_)
  · rw [if_neg c4] at h
    refine lv_aload hx hb dX1_bends_191 (lv_at hl 0 rfl) ?_
    obtain ⟨q5, eq5, h⟩ := jx_bi_some h
    refine jv_cell_X1 hx hb hml hown hts hlv hV r2h eq5 (Nat.le_of_ble_eq_true rfl) hP hS hl.1 rfl rfl (lv_room (Nat.le_of_ble_eq_true rfl)) dX1_bends_193 (fun H locs hP hS => ?_)
    refine lv_iconst hx hb dX1_bends_196 jx_kim1 ?_
    refine lv_icmp_eq (tgt := 230) hx hb dX1_bends_197 rfl (fun c6 => ?_) (fun c6 => ?_)
    · rw [if_pos c6] at h
      refine lv_aload hx hb dX1_bends_230 (lv_at hl 0 rfl) ?_
      obtain ⟨q7, eq7, h⟩ := jx_bi_some h
      refine jv_word_X1 hx hb hml hown hts hlv hV r2h eq7 (Nat.le_of_ble_eq_true rfl) hP hS hl.1 rfl rfl (lv_room (Nat.le_of_ble_eq_true rfl)) dX1_bends_232 (fun H locs hP hS => ?_)
      refine lv_bipush hx hb dX1_bends_235 jx_kb7 ?_
      refine lv_icmp_ne (tgt := 280) hx hb dX1_bends_237 rfl (fun c8 => ?_) (fun c8 => ?_)
      · rw [if_neg c8] at h
        exact jf_vret hx hb hr hlk hV hP hS h dX1_bends_280
      · rw [if_pos c8] at h
        refine lv_aload_n hx hb dX1_bends_240 rfl (lv_at hl 1 rfl) ?_
        refine jf_get hx hb hts in_X1 hown hV hP (ci := 1) (k := 3) jf_o0 rfl (by decide) (hts _ q457) rfl rfl dX1_bends_241 ?_
        refine jf_getN hx hb hts in_X5 hown hV hP (ci := 4) (k := 8) jf_o5 rfl (by decide) (jf_l_X1_285 hV.2.2.1) rfl rfl dX1_bends_244 ?_
        refine lv_if_le (tgt := 280) hx hb dX1_bends_247 rfl (fun c9 => ?_) (fun c9 => ?_)
        · rw [if_pos c9] at h
          exact jf_vret hx hb hr hlk hV hP hS h dX1_bends_280
        · rw [if_neg c9] at h
          refine lv_aload_n hx hb dX1_bends_250 rfl (lv_at hl 1 rfl) ?_
          refine jf_get hx hb hts in_X1 hown hV hP (ci := 1) (k := 1) jf_o0 rfl (by decide) (hts _ q455) rfl rfl dX1_bends_251 ?_
          refine jf_getN hx hb hts in_X4 hown hV hP (ci := 3) (k := 8) (jf_oP (Or.inl rfl)) rfl (by decide) (jf_l_X1_233 hV.2.2.1) rfl rfl dX1_bends_254 ?_
          refine lv_iload_n hx hb dX1_bends_257 rfl (lv_at hl 2 rfl) ?_
          obtain ⟨j10, ej10, bj10, h⟩ := jx_ga_some h
          refine jf_zald hx hb hV hP (jf_aP8 (Or.inl rfl)) ej10 bj10 dX1_bends_258 ?_
          refine lv_if_eq (tgt := 280) hx hb dX1_bends_259 rfl (fun c11 => ?_) (fun c11 => ?_)
          · rw [if_pos c11] at h
            exact jf_vret hx hb hr hlk hV hP hS h dX1_bends_280
          · rw [if_neg c11] at h
            refine lv_aload_n hx hb dX1_bends_262 rfl (lv_at hl 1 rfl) ?_
            refine jf_get hx hb hts in_X1 hown hV hP (ci := 1) (k := 3) jf_o0 rfl (by decide) (hts _ q457) rfl rfl dX1_bends_263 ?_
            refine jf_getN hx hb hts in_X5 hown hV hP (ci := 4) (k := 3) jf_o5 rfl (by decide) (jf_l_X1_288 hV.2.2.1) rfl rfl dX1_bends_266 ?_
            refine lv_aload_n hx hb dX1_bends_269 rfl (lv_at hl 1 rfl) ?_
            refine jf_get hx hb hts in_X1 hown hV hP (ci := 1) (k := 3) jf_o0 rfl (by decide) (hts _ q457) rfl rfl dX1_bends_270 ?_
            refine jf_getN hx hb hts in_X5 hown hV hP (ci := 4) (k := 8) jf_o5 rfl (by decide) (jf_l_X1_285 hV.2.2.1) rfl rfl dX1_bends_273 ?_
            refine lv_iconst hx hb dX1_bends_276 jx_ki1 ?_
            refine lv_isub hx hb dX1_bends_277 ?_
            refine lv_iload_n hx hb dX1_bends_278 rfl (lv_at hl 4 rfl) ?_
            obtain ⟨j12, ej12, bj12, h⟩ := jx_ga_some h
            obtain ⟨S13, eS13, h⟩ := jx_nx_some h
            refine jf_iast hx hb hV hP hS jf_a5_3 ej12 bj12 eS13 dX1_bends_279 (fun H locs hP hS => ?_)
            exact jf_vret hx hb hr hlk hV hP hS h dX1_bends_280
    · rw [if_neg c6] at h
      refine lv_aload_n hx hb dX1_bends_200 rfl (lv_at hl 1 rfl) ?_
      refine lv_iload_n hx hb dX1_bends_201 rfl (lv_at hl 2 rfl) ?_
      refine lv_aload hx hb dX1_bends_202 (lv_at hl 0 rfl) ?_
      obtain ⟨q14, eq14, h⟩ := jx_bi_some h
      refine jv_cell_X1 hx hb hml hown hts hlv hV r2h eq14 (Nat.le_of_ble_eq_true rfl) hP hS hl.1 rfl rfl (lv_room (Nat.le_of_ble_eq_true rfl)) dX1_bends_204 (fun H locs hP hS => ?_)
      obtain ⟨q15, eq15, h⟩ := jx_bi_some h
      refine jf_callI hx hb hml hown hts hlv hV (jf_can_met eq15) jf_can_g_X1 jf_can_d (As := [.int x1, .int q14.1]) (Nat.le_of_ble_eq_true rfl) (Nat.le_of_ble_eq_true rfl) hP hS (ci := 1) jf_o0 rfl hl.1 rfl rfl (lv_room (Nat.le_of_ble_eq_true rfl)) dX1_bends_207 (fun H locs hP hS => ?_)
      refine lv_if_eq (tgt := 280) hx hb dX1_bends_210 rfl (fun c16 => ?_) (fun c16 => ?_)
      · rw [if_pos c16] at h
        exact jf_vret hx hb hr hlk hV hP hS h dX1_bends_280
      · rw [if_neg c16] at h
        refine lv_aload_n hx hb dX1_bends_213 rfl (lv_at hl 1 rfl) ?_
        refine jf_get hx hb hts in_X1 hown hV hP (ci := 1) (k := 3) jf_o0 rfl (by decide) (hts _ q457) rfl rfl dX1_bends_214 ?_
        refine jf_getN hx hb hts in_X5 hown hV hP (ci := 4) (k := 1) jf_o5 rfl (by decide) (jf_l_X1_226 hV.2.2.1) rfl rfl dX1_bends_217 ?_
        refine lv_aload hx hb dX1_bends_220 (lv_at hl 0 rfl) ?_
        obtain ⟨q17, eq17, h⟩ := jx_bi_some h
        refine jv_cell_X1 hx hb hml hown hts hlv hV r2h eq17 (Nat.le_of_ble_eq_true rfl) hP hS hl.1 rfl rfl (lv_room (Nat.le_of_ble_eq_true rfl)) dX1_bends_222 (fun H locs hP hS => ?_)
        refine lv_iload_n hx hb dX1_bends_225 rfl (lv_at hl 4 rfl) ?_
        obtain ⟨j18, ej18, bj18, h⟩ := jx_ga_some h
        obtain ⟨S19, eS19, h⟩ := jx_nx_some h
        refine jf_iast hx hb hV hP hS jf_a5_1 ej18 bj18 eS19 dX1_bends_226 (fun H locs hP hS => ?_)
        refine lv_goto (tgt := 280) hx hb dX1_bends_227 rfl ?_
        exact jf_vret hx hb hr hlk hV hP hS h dX1_bends_280
  · rw [if_pos c4] at h
    refine lv_aload hx hb dX1_bends_20 (lv_at hl 0 rfl) ?_
    obtain ⟨e20, h⟩ := jx_ge_some h
    have m21 := jo_is3 r2h e20
    obtain ⟨q22, _, _, hq22, _, _⟩ := jo_f3 (E := E) (S := q3.2) (fo := fo) m21
    refine va_castS hx hb hown (hts _ q925) (hV.1.1 9 _ rfl).2 (va_recv hV.1 hP.1 (ci := 9) rfl hq22) dX1_bends_22 ?_
    refine lv_astore (lv' := [(5, .ref r2a), (4, .ref r2a), (0, .ref (E.1 0)), (1, .int x1), (2, .int x2), (3, .int x3)]) hx hb dX1_bends_25 hl (Nat.le_of_ble_eq_true rfl) rfl (fun ls hl => ?_)
    refine lv_aload hx hb dX1_bends_27 (lv_at hl 0 rfl) ?_
    obtain ⟨q23, bq23, dq23, hq23, aq23, cq23⟩ := jo_f3 (E := E) (S := q3.2) (fo := fo) m21
    refine jf_getN hx hb hts in_X12 hown hV hP (ci := 9) (k := 4) hq23 rfl (by decide) (jf_l_X1_253 hV.2.2.1) rfl rfl dX1_bends_29 ?_
    refine lv_iload_n hx hb dX1_bends_32 rfl (lv_at hl 4 rfl) ?_
    refine lv_iconst hx hb dX1_bends_33 jx_ki1 ?_
    refine lv_iadd hx hb dX1_bends_34 ?_
    refine lv_icmp_ne (tgt := 39) hx hb dX1_bends_35 rfl (fun c24 => ?_) (fun c24 => ?_)
    · rw [if_neg c24] at h
      refine lv_iload_n hx hb dX1_bends_39 rfl (lv_at hl 5 rfl) ?_
      refine lv_aload hx hb dX1_bends_40 (lv_at hl 0 rfl) ?_
      obtain ⟨q25, bq25, dq25, hq25, aq25, cq25⟩ := jo_f3 (E := E) (S := q3.2) (fo := fo) m21
      refine jf_getN hx hb hts in_X12 hown hV hP (ci := 9) (k := 4) hq25 rfl (by decide) (jf_l_X1_253 hV.2.2.1) rfl rfl dX1_bends_42 ?_
      refine lv_icmp_ne (tgt := 52) hx hb dX1_bends_45 rfl (fun c26 => ?_) (fun c26 => ?_)
      · rw [if_neg c26] at h
        refine lv_iconst hx hb dX1_bends_52 jx_ki0 ?_
        exact jf_bends_b53_ok hX F _ _ m21 _ _ h _ _ _ hP hS (lv_sub hl [2, 3, 0] rfl)
      · rw [if_pos c26] at h
        refine lv_iconst hx hb dX1_bends_48 jx_ki1 ?_
        refine lv_goto (tgt := 53) hx hb dX1_bends_49 rfl ?_
        exact jf_bends_b53_ok hX F _ _ m21 _ _ h _ _ _ hP hS (lv_sub hl [2, 3, 0] rfl)
    · rw [if_pos c24] at h
      exact jf_vret hx hb hr hlk hV hP hS h dX1_bends_38
theorem jf_bends_met {l : Launch} {D : va_G} {E : jf_E} {A : Nat → Prop} {fo : Nat → Nat → Option Nat} {pl : va_W} {F : Nat} {x1 : Int32} {x2 : Int32} {x3 : Int32} {S : jf_S} {out : jf_S} (h : jf_bends F x1 x2 x3 S = some out) : jf_Mv l D E A fo pl yX1_bends cX1_bends 9 none 1 [.ref (E.1 0), .int x1, .int x2, .int x3] S out :=
  jf_Mv_of (own := RX1) ⟨by decide, rfl, Nat.le_of_ble_eq_true rfl⟩ (fun hX => jf_bends_ok hX F x1 x2 x3 S h)
end

set_option maxRecDepth 100000
set_option maxHeartbeats 4000000
section
variable {p : Program} {l : Launch} {e : Env} {R : Room} {s : State} {m : MethodId} {args : Array Value} {below : List Frame} {meth : Method} {c : Code} {A : Nat → Prop} {D : va_G} {ck : Nat → ClassId} {ad sa : Nat → Nat} {lv : Nat}
theorem jm_landings_d : yX6_landings.cls = RX6 ∧ yX6_landings.cls ≠ "java/lang/invoke/MethodHandle" ∧ yX6_landings.cls ≠ "java/lang/invoke/VarHandle" ∧ (parseMethodDescriptor yX6_landings.desc).map (fun d => d.parameters.length) = some 2 := by decide +kernel
theorem jm_landings_ok {out : Int64 × jm_S} (hX : jm_Ok p R s m args meth c A D ck ad sa cX6_landings 3 (some .long) 9) (F : Nat) (x1 : Int32) (x2 : Int32) (S : jm_S) (h : jm_landings F x1 x2 S = some out) : jm_J p l e R s m args below meth c A D ck ad 3 (jm_Ql below args s A D ck ad sa out) 0 [(0, .ref (ad 0)), (1, .int x1), (2, .int x2)] [] S := by
  intro H locs ls hP hD hS hl
  have hX0 := hX
  obtain ⟨hx, hb, hml, hown, hts, hlk, hr, hlv, hK, hZ⟩ := hX0
  unfold jm_landings at h
  refine lv_aload_n hx hb dX6_landings_0 rfl (lv_at hl 0 rfl) ?_
  refine lv_iconst hx hb dX6_landings_1 jx_ki0 ?_
  obtain ⟨S1, eS1, h⟩ := jx_nx_some h
  refine jm_put hx hb hts hown hK hP hD hS eS1 jm_f0 (by decide) jm_n0 jm_d0 jm_p0 dX6_landings_2 (fun H locs hP hD hS => ?_)
  refine lv_aload_n hx hb dX6_landings_5 rfl (lv_at hl 0 rfl) ?_
  refine lv_iload_n hx hb dX6_landings_6 rfl (lv_at hl 1 rfl) ?_
  obtain ⟨q2, eq2, h⟩ := jx_bi_some h
  refine jm_callI hx hb hml hown hts hlv hK hZ (jm_noJump_met eq2) jm_noJump_g jm_noJump_d (As := [.int x1]) (Nat.le_of_ble_eq_true rfl) (Nat.le_of_ble_eq_true rfl) hP hD hS hl.1 rfl rfl (lv_room (Nat.le_of_ble_eq_true rfl)) dX6_landings_7 (fun H locs hP hD hS => ?_)
  refine lv_if_eq (tgt := 15) hx hb dX6_landings_10 rfl (fun c3 => ?_) (fun c3 => ?_)
  · rw [if_pos c3] at h
    refine lv_aload_n hx hb dX6_landings_15 rfl (lv_at hl 0 rfl) ?_
    obtain ⟨q4, eq4, h⟩ := jx_bi_some h
    refine jm_callV hx hb hml hown hts hlv hK hZ (jm_flows_met eq4) jm_flows_g jm_flows_d (As := []) (Nat.le_of_ble_eq_true rfl) (Nat.le_of_ble_eq_true rfl) hP hD hS hl.1 rfl rfl (lv_room (Nat.le_of_ble_eq_true rfl)) dX6_landings_16 (fun H locs hP hD hS => ?_)
    refine lv_iload_n hx hb dX6_landings_19 rfl (lv_at hl 2 rfl) ?_
    refine lv_if_eq (tgt := 32) hx hb dX6_landings_20 rfl (fun c5 => ?_) (fun c5 => ?_)
    · rw [if_pos c5] at h
      refine lv_aload_n hx hb dX6_landings_32 rfl (lv_at hl 0 rfl) ?_
      refine jm_get hx hb hts hown hK hP jm_f14 (by decide) jm_g14 dX6_landings_33 ?_
      refine lv_iload_n hx hb dX6_landings_36 rfl (lv_at hl 1 rfl) ?_
      obtain ⟨j6, ej6, bj6, h⟩ := jx_ga_some h
      refine jm_lald hx hb hK hP jm_a14 ej6 bj6 dX6_landings_37 ?_
      exact jm_lret hx hb hr hlk hK hZ hP hD hS h dX6_landings_38
    · rw [if_neg c5] at h
      refine lv_aload_n hx hb dX6_landings_23 rfl (lv_at hl 0 rfl) ?_
      refine jm_get hx hb hts hown hK hP jm_f15 (by decide) jm_g15 dX6_landings_24 ?_
      refine lv_iload_n hx hb dX6_landings_27 rfl (lv_at hl 1 rfl) ?_
      obtain ⟨j7, ej7, bj7, h⟩ := jx_ga_some h
      refine jm_lald hx hb hK hP jm_a15 ej7 bj7 dX6_landings_28 ?_
      refine lv_goto (tgt := 38) hx hb dX6_landings_29 rfl ?_
      exact jm_lret hx hb hr hlk hK hZ hP hD hS h dX6_landings_38
  · rw [if_neg c3] at h
    refine lv_lconst hx hb dX6_landings_13 jx_kl0 ?_
    exact jm_lret hx hb hr hlk hK hZ hP hD hS h dX6_landings_14
theorem jm_landings_met {l : Launch} {D : va_G} {ck : Nat → ClassId} {ad sa : Nat → Nat} {A : Nat → Prop} {F : Nat} {x1 : Int32} {x2 : Int32} {S : jm_S} {out : Int64 × jm_S} (h : jm_landings F x1 x2 S = some out) : jm_Ml l D ck ad sa A yX6_landings cX6_landings 3 (some .long) 9 [.int x1, .int x2] S out :=
  jm_Ml_of ⟨by decide, rfl, Nat.le_of_ble_eq_true rfl⟩ (fun hX => jm_landings_ok hX F x1 x2 S h)
theorem jm_letsBy_d : yX6_letsBy.cls = RX6 ∧ yX6_letsBy.cls ≠ "java/lang/invoke/MethodHandle" ∧ yX6_letsBy.cls ≠ "java/lang/invoke/VarHandle" ∧ (parseMethodDescriptor yX6_letsBy.desc).map (fun d => d.parameters.length) = some 2 := by decide +kernel
theorem jm_letsBy_g : GoodIn lw_all (wsV RX6 272 RX6 yX6_letsBy (ws_ yX6_letsBy cX6_letsBy 3 (some .long))) := lw_V q1887 q1889 qs68 q110 q1890
theorem jm_letsBy_ok {out : Int64 × jm_S} (hX : jm_Ok p R s m args meth c A D ck ad sa cX6_letsBy 3 (some .long) 2) (F : Nat) (x1 : Int32) (x2 : Int32) (S : jm_S) (h : jm_letsBy F x1 x2 S = some out) : jm_J p l e R s m args below meth c A D ck ad 3 (jm_Ql below args s A D ck ad sa out) 0 [(0, .ref (ad 0)), (1, .int x1), (2, .int x2)] [] S := by
  intro H locs ls hP hD hS hl
  have hX0 := hX
  obtain ⟨hx, hb, hml, hown, hts, hlk, hr, hlv, hK, hZ⟩ := hX0
  unfold jm_letsBy at h
  refine lv_iload_n hx hb dX6_letsBy_0 rfl (lv_at hl 2 rfl) ?_
  refine lv_if_ne (tgt := 11) hx hb dX6_letsBy_1 rfl (fun c1 => ?_) (fun c1 => ?_)
  · rw [if_neg c1] at h
    refine lv_iload_n hx hb dX6_letsBy_11 rfl (lv_at hl 2 rfl) ?_
    refine lv_iconst hx hb dX6_letsBy_12 jx_ki1 ?_
    refine lv_icmp_ne (tgt := 25) hx hb dX6_letsBy_13 rfl (fun c2 => ?_) (fun c2 => ?_)
    · rw [if_neg c2] at h
      refine lv_aload_n hx hb dX6_letsBy_25 rfl (lv_at hl 0 rfl) ?_
      refine jm_get hx hb hts hown hK hP jm_f15 (by decide) jm_g15 dX6_letsBy_26 ?_
      refine lv_iload_n hx hb dX6_letsBy_29 rfl (lv_at hl 1 rfl) ?_
      obtain ⟨j3, ej3, bj3, h⟩ := jx_ga_some h
      refine jm_lald hx hb hK hP jm_a15 ej3 bj3 dX6_letsBy_30 ?_
      exact jm_lret hx hb hr hlk hK hZ hP hD hS h dX6_letsBy_31
    · rw [if_pos c2] at h
      refine lv_aload_n hx hb dX6_letsBy_16 rfl (lv_at hl 0 rfl) ?_
      refine jm_get hx hb hts hown hK hP jm_f14 (by decide) jm_g14 dX6_letsBy_17 ?_
      refine lv_iload_n hx hb dX6_letsBy_20 rfl (lv_at hl 1 rfl) ?_
      obtain ⟨j4, ej4, bj4, h⟩ := jx_ga_some h
      refine jm_lald hx hb hK hP jm_a14 ej4 bj4 dX6_letsBy_21 ?_
      refine lv_goto (tgt := 31) hx hb dX6_letsBy_22 rfl ?_
      exact jm_lret hx hb hr hlk hK hZ hP hD hS h dX6_letsBy_31
  · rw [if_pos c1] at h
    refine lv_aload_n hx hb dX6_letsBy_4 rfl (lv_at hl 0 rfl) ?_
    obtain ⟨q5, eq5, h⟩ := jx_bi_some h
    refine jm_callL hx hb hml hown hts hlv hK hZ (jm_all_met eq5) jm_all_g jm_all_d (As := []) (Nat.le_of_ble_eq_true rfl) (Nat.le_of_ble_eq_true rfl) hP hD hS hl.1 rfl rfl (lv_room (Nat.le_of_ble_eq_true rfl)) dX6_letsBy_5 (fun H locs hP hD hS => ?_)
    refine lv_goto (tgt := 31) hx hb dX6_letsBy_8 rfl ?_
    exact jm_lret hx hb hr hlk hK hZ hP hD hS h dX6_letsBy_31
theorem jm_letsBy_met {l : Launch} {D : va_G} {ck : Nat → ClassId} {ad sa : Nat → Nat} {A : Nat → Prop} {F : Nat} {x1 : Int32} {x2 : Int32} {S : jm_S} {out : Int64 × jm_S} (h : jm_letsBy F x1 x2 S = some out) : jm_Ml l D ck ad sa A yX6_letsBy cX6_letsBy 3 (some .long) 2 [.int x1, .int x2] S out :=
  jm_Ml_of ⟨by decide, rfl, Nat.le_of_ble_eq_true rfl⟩ (fun hX => jm_letsBy_ok hX F x1 x2 S h)
theorem jm_lets_d : yX6_lets.cls = RX6 ∧ yX6_lets.cls ≠ "java/lang/invoke/MethodHandle" ∧ yX6_lets.cls ≠ "java/lang/invoke/VarHandle" ∧ (parseMethodDescriptor yX6_lets.desc).map (fun d => d.parameters.length) = some 1 := by decide +kernel
theorem jm_lets_ok {out : Int64 × jm_S} (hX : jm_Ok p R s m args meth c A D ck ad sa cX6_lets 2 (some .long) 9) (F : Nat) (x1 : Int32) (S : jm_S) (h : jm_lets F x1 S = some out) : jm_J p l e R s m args below meth c A D ck ad 2 (jm_Ql below args s A D ck ad sa out) 0 [(0, .ref (ad 0)), (1, .int x1)] [] S := by
  intro H locs ls hP hD hS hl
  have hX0 := hX
  obtain ⟨hx, hb, hml, hown, hts, hlk, hr, hlv, hK, hZ⟩ := hX0
  unfold jm_lets at h
  refine lv_aload_n hx hb dX6_lets_0 rfl (lv_at hl 0 rfl) ?_
  refine lv_iconst hx hb dX6_lets_1 jx_ki0 ?_
  obtain ⟨S1, eS1, h⟩ := jx_nx_some h
  refine jm_put hx hb hts hown hK hP hD hS eS1 jm_f0 (by decide) jm_n0 jm_d0 jm_p0 dX6_lets_2 (fun H locs hP hD hS => ?_)
  refine lv_aload_n hx hb dX6_lets_5 rfl (lv_at hl 0 rfl) ?_
  refine lv_iload_n hx hb dX6_lets_6 rfl (lv_at hl 1 rfl) ?_
  obtain ⟨q2, eq2, h⟩ := jx_bi_some h
  refine jm_callI hx hb hml hown hts hlv hK hZ (jm_noJump_met eq2) jm_noJump_g jm_noJump_d (As := [.int x1]) (Nat.le_of_ble_eq_true rfl) (Nat.le_of_ble_eq_true rfl) hP hD hS hl.1 rfl rfl (lv_room (Nat.le_of_ble_eq_true rfl)) dX6_lets_7 (fun H locs hP hD hS => ?_)
  refine lv_if_eq (tgt := 15) hx hb dX6_lets_10 rfl (fun c3 => ?_) (fun c3 => ?_)
  · rw [if_pos c3] at h
    refine lv_aload_n hx hb dX6_lets_15 rfl (lv_at hl 0 rfl) ?_
    obtain ⟨q4, eq4, h⟩ := jx_bi_some h
    refine jm_callV hx hb hml hown hts hlv hK hZ (jm_flows_met eq4) jm_flows_g jm_flows_d (As := []) (Nat.le_of_ble_eq_true rfl) (Nat.le_of_ble_eq_true rfl) hP hD hS hl.1 rfl rfl (lv_room (Nat.le_of_ble_eq_true rfl)) dX6_lets_16 (fun H locs hP hD hS => ?_)
    refine lv_aload_n hx hb dX6_lets_19 rfl (lv_at hl 0 rfl) ?_
    refine lv_iload_n hx hb dX6_lets_20 rfl (lv_at hl 1 rfl) ?_
    refine lv_aload_n hx hb dX6_lets_21 rfl (lv_at hl 0 rfl) ?_
    refine lv_iload_n hx hb dX6_lets_22 rfl (lv_at hl 1 rfl) ?_
    refine lv_iconst hx hb dX6_lets_23 jx_ki2 ?_
    obtain ⟨q5, eq5, h⟩ := jx_bi_some h
    refine jm_callI hx hb hml hown hts hlv hK hZ (jm_of_met eq5) jm_of_g jm_of_d (As := [.int x1, .int (nI 2)]) (Nat.le_of_ble_eq_true rfl) (Nat.le_of_ble_eq_true rfl) hP hD hS hl.1 rfl rfl (lv_room (Nat.le_of_ble_eq_true rfl)) dX6_lets_24 (fun H locs hP hD hS => ?_)
    obtain ⟨q6, eq6, h⟩ := jx_bi_some h
    refine jm_callL hx hb hml hown hts hlv hK hZ (jm_letsBy_met eq6) jm_letsBy_g jm_letsBy_d (As := [.int x1, .int q5.1]) (Nat.le_of_ble_eq_true rfl) (Nat.le_of_ble_eq_true rfl) hP hD hS hl.1 rfl rfl (lv_room (Nat.le_of_ble_eq_true rfl)) dX6_lets_27 (fun H locs hP hD hS => ?_)
    exact jm_lret hx hb hr hlk hK hZ hP hD hS h dX6_lets_30
  · rw [if_neg c3] at h
    refine lv_lconst hx hb dX6_lets_13 jx_kl0 ?_
    exact jm_lret hx hb hr hlk hK hZ hP hD hS h dX6_lets_14
theorem jm_lets_met {l : Launch} {D : va_G} {ck : Nat → ClassId} {ad sa : Nat → Nat} {A : Nat → Prop} {F : Nat} {x1 : Int32} {S : jm_S} {out : Int64 × jm_S} (h : jm_lets F x1 S = some out) : jm_Ml l D ck ad sa A yX6_lets cX6_lets 2 (some .long) 9 [.int x1] S out :=
  jm_Ml_of ⟨by decide, rfl, Nat.le_of_ble_eq_true rfl⟩ (fun hX => jm_lets_ok hX F x1 S h)
theorem jm_holds_d : yX6_holds.cls = RX6 ∧ yX6_holds.cls ≠ "java/lang/invoke/MethodHandle" ∧ yX6_holds.cls ≠ "java/lang/invoke/VarHandle" ∧ (parseMethodDescriptor yX6_holds.desc).map (fun d => d.parameters.length) = some 1 := by decide +kernel
theorem jm_holds_ok {out : Int64 × jm_S} (hX : jm_Ok p R s m args meth c A D ck ad sa cX6_holds 2 (some .long) 9) (F : Nat) (x1 : Int32) (S : jm_S) (h : jm_holds F x1 S = some out) : jm_J p l e R s m args below meth c A D ck ad 2 (jm_Ql below args s A D ck ad sa out) 0 [(0, .ref (ad 0)), (1, .int x1)] [] S := by
  intro H locs ls hP hD hS hl
  have hX0 := hX
  obtain ⟨hx, hb, hml, hown, hts, hlk, hr, hlv, hK, hZ⟩ := hX0
  unfold jm_holds at h
  refine lv_aload_n hx hb dX6_holds_0 rfl (lv_at hl 0 rfl) ?_
  refine lv_iconst hx hb dX6_holds_1 jx_ki0 ?_
  obtain ⟨S1, eS1, h⟩ := jx_nx_some h
  refine jm_put hx hb hts hown hK hP hD hS eS1 jm_f0 (by decide) jm_n0 jm_d0 jm_p0 dX6_holds_2 (fun H locs hP hD hS => ?_)
  refine lv_aload_n hx hb dX6_holds_5 rfl (lv_at hl 0 rfl) ?_
  refine lv_iload_n hx hb dX6_holds_6 rfl (lv_at hl 1 rfl) ?_
  obtain ⟨q2, eq2, h⟩ := jx_bi_some h
  refine jx_callSi hx hb hml hown hts (jm_noCell_met eq2) jm_noCell_g_X6 jm_noCell_d (As := [.int x1]) (by rw [hlv]; decide) hl.1 rfl rfl (lv_room (Nat.le_of_ble_eq_true rfl)) dX6_holds_7 (by rw [hlv]; exact ⟨Nat.zero_le _, Nat.zero_le _⟩) ?_
  refine lv_iconst hx hb dX6_holds_10 jx_ki1 ?_
  obtain ⟨q3, eq3, h⟩ := jx_bi_some h
  refine jm_callI hx hb hml hown hts hlv hK hZ (jm_throwsIf_met eq3) jm_throwsIf_g jm_throwsIf_d (As := [.int q2, .int (nI 1)]) (Nat.le_of_ble_eq_true rfl) (Nat.le_of_ble_eq_true rfl) hP hD hS hl.1 rfl rfl (lv_room (Nat.le_of_ble_eq_true rfl)) dX6_holds_11 (fun H locs hP hD hS => ?_)
  refine lv_if_eq (tgt := 19) hx hb dX6_holds_14 rfl (fun c4 => ?_) (fun c4 => ?_)
  · rw [if_pos c4] at h
    refine lv_aload_n hx hb dX6_holds_19 rfl (lv_at hl 0 rfl) ?_
    obtain ⟨q5, eq5, h⟩ := jx_bi_some h
    refine jm_callV hx hb hml hown hts hlv hK hZ (jm_flows_met eq5) jm_flows_g jm_flows_d (As := []) (Nat.le_of_ble_eq_true rfl) (Nat.le_of_ble_eq_true rfl) hP hD hS hl.1 rfl rfl (lv_room (Nat.le_of_ble_eq_true rfl)) dX6_holds_20 (fun H locs hP hD hS => ?_)
    refine lv_aload_n hx hb dX6_holds_23 rfl (lv_at hl 0 rfl) ?_
    refine jm_get hx hb hts hown hK hP jm_f12 (by decide) jm_g12 dX6_holds_24 ?_
    refine lv_iload_n hx hb dX6_holds_27 rfl (lv_at hl 1 rfl) ?_
    obtain ⟨j6, ej6, bj6, h⟩ := jx_ga_some h
    refine jm_lald hx hb hK hP jm_a12 ej6 bj6 dX6_holds_28 ?_
    exact jm_lret hx hb hr hlk hK hZ hP hD hS h dX6_holds_29
  · rw [if_neg c4] at h
    refine lv_lconst hx hb dX6_holds_17 jx_kl0 ?_
    exact jm_lret hx hb hr hlk hK hZ hP hD hS h dX6_holds_18
theorem jm_holds_met {l : Launch} {D : va_G} {ck : Nat → ClassId} {ad sa : Nat → Nat} {A : Nat → Prop} {F : Nat} {x1 : Int32} {S : jm_S} {out : Int64 × jm_S} (h : jm_holds F x1 S = some out) : jm_Ml l D ck ad sa A yX6_holds cX6_holds 2 (some .long) 9 [.int x1] S out :=
  jm_Ml_of ⟨by decide, rfl, Nat.le_of_ble_eq_true rfl⟩ (fun hX => jm_holds_ok hX F x1 S h)
theorem jm_odd_d : yX6_odd.cls = RX6 ∧ yX6_odd.cls ≠ "java/lang/invoke/MethodHandle" ∧ yX6_odd.cls ≠ "java/lang/invoke/VarHandle" ∧ (parseMethodDescriptor yX6_odd.desc).map (fun d => d.parameters.length) = some 1 := by decide +kernel
theorem jm_odd_ok {out : Int32 × jm_S} (hX : jm_Ok p R s m args meth c A D ck ad sa cX6_odd 2 (some .boolean) 9) (F : Nat) (x1 : Int32) (S : jm_S) (h : jm_odd F x1 S = some out) : jm_J p l e R s m args below meth c A D ck ad 2 (jm_Qi below args s A D ck ad sa out) 0 [(0, .ref (ad 0)), (1, .int x1)] [] S := by
  intro H locs ls hP hD hS hl
  have hX0 := hX
  obtain ⟨hx, hb, hml, hown, hts, hlk, hr, hlv, hK, hZ⟩ := hX0
  unfold jm_odd at h
  refine lv_aload_n hx hb dX6_odd_0 rfl (lv_at hl 0 rfl) ?_
  refine lv_iconst hx hb dX6_odd_1 jx_ki0 ?_
  obtain ⟨S1, eS1, h⟩ := jx_nx_some h
  refine jm_put hx hb hts hown hK hP hD hS eS1 jm_f0 (by decide) jm_n0 jm_d0 jm_p0 dX6_odd_2 (fun H locs hP hD hS => ?_)
  refine lv_aload_n hx hb dX6_odd_5 rfl (lv_at hl 0 rfl) ?_
  refine lv_iload_n hx hb dX6_odd_6 rfl (lv_at hl 1 rfl) ?_
  obtain ⟨q2, eq2, h⟩ := jx_bi_some h
  refine jx_callSi hx hb hml hown hts (jm_noCell_met eq2) jm_noCell_g_X6 jm_noCell_d (As := [.int x1]) (by rw [hlv]; decide) hl.1 rfl rfl (lv_room (Nat.le_of_ble_eq_true rfl)) dX6_odd_7 (by rw [hlv]; exact ⟨Nat.zero_le _, Nat.zero_le _⟩) ?_
  refine lv_iconst hx hb dX6_odd_10 jx_ki1 ?_
  obtain ⟨q3, eq3, h⟩ := jx_bi_some h
  refine jm_callI hx hb hml hown hts hlv hK hZ (jm_throwsIf_met eq3) jm_throwsIf_g jm_throwsIf_d (As := [.int q2, .int (nI 1)]) (Nat.le_of_ble_eq_true rfl) (Nat.le_of_ble_eq_true rfl) hP hD hS hl.1 rfl rfl (lv_room (Nat.le_of_ble_eq_true rfl)) dX6_odd_11 (fun H locs hP hD hS => ?_)
  refine lv_if_eq (tgt := 19) hx hb dX6_odd_14 rfl (fun c4 => ?_) (fun c4 => ?_)
  · rw [if_pos c4] at h
    refine lv_aload_n hx hb dX6_odd_19 rfl (lv_at hl 0 rfl) ?_
    obtain ⟨q5, eq5, h⟩ := jx_bi_some h
    refine jm_callV hx hb hml hown hts hlv hK hZ (jm_flows_met eq5) jm_flows_g jm_flows_d (As := []) (Nat.le_of_ble_eq_true rfl) (Nat.le_of_ble_eq_true rfl) hP hD hS hl.1 rfl rfl (lv_room (Nat.le_of_ble_eq_true rfl)) dX6_odd_20 (fun H locs hP hD hS => ?_)
    refine lv_aload_n hx hb dX6_odd_23 rfl (lv_at hl 0 rfl) ?_
    refine jm_get hx hb hts hown hK hP jm_f13 (by decide) jm_g13 dX6_odd_24 ?_
    refine lv_iload_n hx hb dX6_odd_27 rfl (lv_at hl 1 rfl) ?_
    obtain ⟨j6, ej6, bj6, h⟩ := jx_ga_some h
    refine jm_zald hx hb hK hP jm_a13 ej6 bj6 dX6_odd_28 ?_
    obtain ⟨z7, h⟩ := jx_gz_some h
    exact jm_zret hx hb hr hlk hK hZ hP hD hS z7 h dX6_odd_29
  · rw [if_neg c4] at h
    refine lv_iconst hx hb dX6_odd_17 jx_ki0 ?_
    exact jm_zret hx hb hr hlk hK hZ hP hD hS jx_nz0 h dX6_odd_18
theorem jm_odd_met {l : Launch} {D : va_G} {ck : Nat → ClassId} {ad sa : Nat → Nat} {A : Nat → Prop} {F : Nat} {x1 : Int32} {S : jm_S} {out : Int32 × jm_S} (h : jm_odd F x1 S = some out) : jm_Mi l D ck ad sa A yX6_odd cX6_odd 2 (some .boolean) 9 [.int x1] S out :=
  jm_Mi_of ⟨by decide, rfl, Nat.le_of_ble_eq_true rfl⟩ (fun hX => jm_odd_ok hX F x1 S h)
theorem jm_bend_d : yX6_bend.cls = RX6 ∧ yX6_bend.cls ≠ "java/lang/invoke/MethodHandle" ∧ yX6_bend.cls ≠ "java/lang/invoke/VarHandle" ∧ (parseMethodDescriptor yX6_bend.desc).map (fun d => d.parameters.length) = some 3 := by decide +kernel
theorem jm_bend_b69_ok {out : Int32 × jm_S} (hX : jm_Ok p R s m args meth c A D ck ad sa cX6_bend 5 (some .int) 1) (F : Nat) (x1 : Int32) (x2 : Int32) (x3 : Int32) (k0 : Int32) (S : jm_S) (h : jm_bend_b69 F x1 x2 x3 k0 S = some out) : jm_J p l e R s m args below meth c A D ck ad 5 (jm_Qi below args s A D ck ad sa out) 69 [(0, .ref (ad 0)), (1, .int x1), (2, .int x2), (3, .int x3)] [.int k0, .ref (ad 0)] S := by
  intro H locs ls hP hD hS hl
  have hX0 := hX
  obtain ⟨hx, hb, hml, hown, hts, hlk, hr, hlv, hK, hZ⟩ := hX0
  unfold jm_bend_b69 at h
  refine lv_iconst hx hb dX6_bend_69 jx_ki3 ?_
  obtain ⟨q1, eq1, h⟩ := jx_bi_some h
  refine jm_callI hx hb hml hown hts hlv hK hZ (jm_throwsIf_met eq1) jm_throwsIf_g jm_throwsIf_d (As := [.int k0, .int (nI 3)]) (Nat.le_of_ble_eq_true rfl) (Nat.le_of_ble_eq_true rfl) hP hD hS hl.1 rfl rfl (lv_room (Nat.le_of_ble_eq_true rfl)) dX6_bend_70 (fun H locs hP hD hS => ?_)
  refine lv_if_eq (tgt := 78) hx hb dX6_bend_73 rfl (fun c2 => ?_) (fun c2 => ?_)
  · rw [if_pos c2] at h
    refine lv_sipush hx hb dX6_bend_78 jx_ks368 ?_
    refine lv_iconst hx hb dX6_bend_81 jx_ki3 ?_
    refine lv_aload_n hx hb dX6_bend_82 rfl (lv_at hl 0 rfl) ?_
    refine jm_get hx hb hts hown hK hP jm_f1 (by decide) jm_g1 dX6_bend_83 ?_
    refine lv_iconst hx hb dX6_bend_86 jx_ki1 ?_
    obtain ⟨j3, ej3, bj3, h⟩ := jx_ga_some h
    refine jm_iald hx hb hK hP jm_a1 ej3 bj3 dX6_bend_87 ?_
    refine lv_imul hx hb dX6_bend_88 ?_
    refine lv_iadd hx hb dX6_bend_89 ?_
    obtain ⟨y4, ey4, h⟩ := jx_nx_some h
    refine jx_topi ey4 ?_
    refine lv_istore (lv' := [(4, .int y4), (0, .ref (ad 0)), (1, .int x1), (2, .int x2), (3, .int x3)]) hx hb dX6_bend_90 hl (Nat.le_of_ble_eq_true rfl) rfl (fun ls hl => ?_)
    refine lv_aload_n hx hb dX6_bend_92 rfl (lv_at hl 1 rfl) ?_
    refine jm_get hx hb hts hown hK hP jm_f1 (by decide) jm_g1 dX6_bend_93 ?_
    refine lv_iload hx hb dX6_bend_96 (lv_at hl 0 rfl) ?_
    refine lv_iload_n hx hb dX6_bend_98 rfl (lv_at hl 2 rfl) ?_
    obtain ⟨j5, ej5, bj5, h⟩ := jx_ga_some h
    obtain ⟨S6, eS6, h⟩ := jx_nx_some h
    refine jm_iast hx hb hK hP hD hS jm_a1 (fun f => jm_u1 f) ej5 bj5 eS6 dX6_bend_99 (fun H locs hP hD hS => ?_)
    refine lv_aload_n hx hb dX6_bend_100 rfl (lv_at hl 1 rfl) ?_
    refine jm_get hx hb hts hown hK hP jm_f1 (by decide) jm_g1 dX6_bend_101 ?_
    refine lv_iload hx hb dX6_bend_104 (lv_at hl 0 rfl) ?_
    refine lv_iconst hx hb dX6_bend_106 jx_ki1 ?_
    refine lv_iadd hx hb dX6_bend_107 ?_
    refine lv_iload_n hx hb dX6_bend_108 rfl (lv_at hl 3 rfl) ?_
    obtain ⟨j7, ej7, bj7, h⟩ := jx_ga_some h
    obtain ⟨S8, eS8, h⟩ := jx_nx_some h
    refine jm_iast hx hb hK hP hD hS jm_a1 (fun f => jm_u1 f) ej7 bj7 eS8 dX6_bend_109 (fun H locs hP hD hS => ?_)
    refine lv_aload_n hx hb dX6_bend_110 rfl (lv_at hl 1 rfl) ?_
    refine jm_get hx hb hts hown hK hP jm_f1 (by decide) jm_g1 dX6_bend_111 ?_
    refine lv_iload hx hb dX6_bend_114 (lv_at hl 0 rfl) ?_
    refine lv_iconst hx hb dX6_bend_116 jx_ki2 ?_
    refine lv_iadd hx hb dX6_bend_117 ?_
    refine lv_iload_n hx hb dX6_bend_118 rfl (lv_at hl 4 rfl) ?_
    obtain ⟨j9, ej9, bj9, h⟩ := jx_ga_some h
    obtain ⟨S10, eS10, h⟩ := jx_nx_some h
    refine jm_iast hx hb hK hP hD hS jm_a1 (fun f => jm_u1 f) ej9 bj9 eS10 dX6_bend_119 (fun H locs hP hD hS => ?_)
    refine lv_aload_n hx hb dX6_bend_120 rfl (lv_at hl 1 rfl) ?_
    refine jm_get hx hb hts hown hK hP jm_f1 (by decide) jm_g1 dX6_bend_121 ?_
    refine lv_iconst hx hb dX6_bend_124 jx_ki1 ?_
    refine lv_dup2_11 hx hb dX6_bend_125 rfl rfl ?_
    obtain ⟨j11, ej11, bj11, h⟩ := jx_ga_some h
    refine jm_iald hx hb hK hP jm_a1 ej11 bj11 dX6_bend_126 ?_
    refine lv_iconst hx hb dX6_bend_127 jx_ki1 ?_
    refine lv_iadd hx hb dX6_bend_128 ?_
    obtain ⟨j12, ej12, bj12, h⟩ := jx_ga_some h
    obtain ⟨S13, eS13, h⟩ := jx_nx_some h
    refine jm_iast hx hb hK hP hD hS jm_a1 (fun f => jm_u1 f) ej12 bj12 eS13 dX6_bend_129 (fun H locs hP hD hS => ?_)
    refine lv_aload_n hx hb dX6_bend_130 rfl (lv_at hl 1 rfl) ?_
    refine jm_get hx hb hts hown hK hP jm_f1 (by decide) jm_g1 dX6_bend_131 ?_
    refine lv_iconst hx hb dX6_bend_134 jx_ki1 ?_
    obtain ⟨j14, ej14, bj14, h⟩ := jx_ga_some h
    refine jm_iald hx hb hK hP jm_a1 ej14 bj14 dX6_bend_135 ?_
    refine lv_iconst hx hb dX6_bend_136 jx_ki1 ?_
    refine lv_isub hx hb dX6_bend_137 ?_
    exact jm_iret hx hb hr hlk hK hZ hP hD hS h dX6_bend_138
  · rw [if_neg c2] at h
    refine lv_iconst hx hb dX6_bend_76 jx_ki0 ?_
    exact jm_iret hx hb hr hlk hK hZ hP hD hS h dX6_bend_77
theorem jm_bend_b45_ok {out : Int32 × jm_S} (hX : jm_Ok p R s m args meth c A D ck ad sa cX6_bend 5 (some .int) 1) (F : Nat) (x1 : Int32) (x2 : Int32) (x3 : Int32) (k0 : Int32) (S : jm_S) (h : jm_bend_b45 F x1 x2 x3 k0 S = some out) : jm_J p l e R s m args below meth c A D ck ad 5 (jm_Qi below args s A D ck ad sa out) 45 [(0, .ref (ad 0)), (1, .int x1), (2, .int x2), (3, .int x3)] [.int k0, .ref (ad 0)] S := by
  intro H locs ls hP hD hS hl
  have hX0 := hX
  obtain ⟨hx, hb, hml, hown, hts, hlk, hr, hlv, hK, hZ⟩ := hX0
  unfold jm_bend_b45 at h
  refine lv_iconst hx hb dX6_bend_45 jx_ki2 ?_
  obtain ⟨q1, eq1, h⟩ := jx_bi_some h
  refine jm_callI hx hb hml hown hts hlv hK hZ (jm_throwsIf_met eq1) jm_throwsIf_g jm_throwsIf_d (As := [.int k0, .int (nI 2)]) (Nat.le_of_ble_eq_true rfl) (Nat.le_of_ble_eq_true rfl) hP hD hS hl.1 rfl rfl (lv_room (Nat.le_of_ble_eq_true rfl)) dX6_bend_46 (fun H locs hP hD hS => ?_)
  refine lv_if_ne (tgt := 76) hx hb dX6_bend_49 rfl (fun c2 => ?_) (fun c2 => ?_)
  · rw [if_neg c2] at h
    refine lv_iconst hx hb dX6_bend_76 jx_ki0 ?_
    exact jm_iret hx hb hr hlk hK hZ hP hD hS h dX6_bend_77
  · rw [if_pos c2] at h
    refine lv_aload_n hx hb dX6_bend_52 rfl (lv_at hl 0 rfl) ?_
    refine lv_aload_n hx hb dX6_bend_53 rfl (lv_at hl 0 rfl) ?_
    refine jm_get hx hb hts hown hK hP jm_f1 (by decide) jm_g1 dX6_bend_54 ?_
    refine lv_iconst hx hb dX6_bend_57 jx_ki1 ?_
    obtain ⟨j3, ej3, bj3, h⟩ := jx_ga_some h
    refine jm_iald hx hb hK hP jm_a1 ej3 bj3 dX6_bend_58 ?_
    refine lv_bipush hx hb dX6_bend_59 jx_kb8 ?_
    refine lv_icmp_ne (tgt := 68) hx hb dX6_bend_61 rfl (fun c4 => ?_) (fun c4 => ?_)
    · rw [if_neg c4] at h
      refine lv_iconst hx hb dX6_bend_68 jx_ki0 ?_
      exact jm_bend_b69_ok hX F _ _ _ _ _ h _ _ _ hP hD hS hl
    · rw [if_pos c4] at h
      refine lv_iconst hx hb dX6_bend_64 jx_ki1 ?_
      refine lv_goto (tgt := 69) hx hb dX6_bend_65 rfl ?_
      exact jm_bend_b69_ok hX F _ _ _ _ _ h _ _ _ hP hD hS hl
theorem jm_bend_b21_ok {out : Int32 × jm_S} (hX : jm_Ok p R s m args meth c A D ck ad sa cX6_bend 5 (some .int) 1) (F : Nat) (x1 : Int32) (x2 : Int32) (x3 : Int32) (k0 : Int32) (S : jm_S) (h : jm_bend_b21 F x1 x2 x3 k0 S = some out) : jm_J p l e R s m args below meth c A D ck ad 5 (jm_Qi below args s A D ck ad sa out) 21 [(0, .ref (ad 0)), (1, .int x1), (2, .int x2), (3, .int x3)] [.int k0, .ref (ad 0)] S := by
  intro H locs ls hP hD hS hl
  have hX0 := hX
  obtain ⟨hx, hb, hml, hown, hts, hlk, hr, hlv, hK, hZ⟩ := hX0
  unfold jm_bend_b21 at h
  refine lv_iconst hx hb dX6_bend_21 jx_ki1 ?_
  obtain ⟨q1, eq1, h⟩ := jx_bi_some h
  refine jm_callI hx hb hml hown hts hlv hK hZ (jm_throwsIf_met eq1) jm_throwsIf_g jm_throwsIf_d (As := [.int k0, .int (nI 1)]) (Nat.le_of_ble_eq_true rfl) (Nat.le_of_ble_eq_true rfl) hP hD hS hl.1 rfl rfl (lv_room (Nat.le_of_ble_eq_true rfl)) dX6_bend_22 (fun H locs hP hD hS => ?_)
  refine lv_if_ne (tgt := 76) hx hb dX6_bend_25 rfl (fun c2 => ?_) (fun c2 => ?_)
  · rw [if_neg c2] at h
    refine lv_iconst hx hb dX6_bend_76 jx_ki0 ?_
    exact jm_iret hx hb hr hlk hK hZ hP hD hS h dX6_bend_77
  · rw [if_pos c2] at h
    refine lv_aload_n hx hb dX6_bend_28 rfl (lv_at hl 0 rfl) ?_
    refine lv_iload_n hx hb dX6_bend_29 rfl (lv_at hl 1 rfl) ?_
    refine lv_iconst hx hb dX6_bend_30 jx_ki0 ?_
    refine lv_sipush hx hb dX6_bend_31 jx_ks299 ?_
    obtain ⟨q3, eq3, h⟩ := jx_bi_some h
    refine jx_callSi hx hb hml hown hts (jm_in_met eq3) jm_in_g_X6 jm_in_d (As := [.int x1, .int (nI 0), .int (nI 299)]) (by rw [hlv]; decide) hl.1 rfl rfl (lv_room (Nat.le_of_ble_eq_true rfl)) dX6_bend_34 (by rw [hlv]; exact ⟨Nat.zero_le _, Nat.zero_le _⟩) ?_
    refine lv_if_ne (tgt := 44) hx hb dX6_bend_37 rfl (fun c4 => ?_) (fun c4 => ?_)
    · rw [if_neg c4] at h
      refine lv_iconst hx hb dX6_bend_44 jx_ki0 ?_
      exact jm_bend_b45_ok hX F _ _ _ _ _ h _ _ _ hP hD hS hl
    · rw [if_pos c4] at h
      refine lv_iconst hx hb dX6_bend_40 jx_ki1 ?_
      refine lv_goto (tgt := 45) hx hb dX6_bend_41 rfl ?_
      exact jm_bend_b45_ok hX F _ _ _ _ _ h _ _ _ hP hD hS hl
theorem jm_bend_ok {out : Int32 × jm_S} (hX : jm_Ok p R s m args meth c A D ck ad sa cX6_bend 5 (some .int) 1) (F : Nat) (x1 : Int32) (x2 : Int32) (x3 : Int32) (S : jm_S) (h : jm_bend F x1 x2 x3 S = some out) : jm_J p l e R s m args below meth c A D ck ad 5 (jm_Qi below args s A D ck ad sa out) 0 [(0, .ref (ad 0)), (1, .int x1), (2, .int x2), (3, .int x3)] [] S := by
  intro H locs ls hP hD hS hl
  have hX0 := hX
  obtain ⟨hx, hb, hml, hown, hts, hlk, hr, hlv, hK, hZ⟩ := hX0
  unfold jm_bend at h
  refine lv_aload_n hx hb dX6_bend_0 rfl (lv_at hl 0 rfl) ?_
  refine lv_iconst hx hb dX6_bend_1 jx_ki0 ?_
  obtain ⟨S1, eS1, h⟩ := jx_nx_some h
  refine jm_put hx hb hts hown hK hP hD hS eS1 jm_f0 (by decide) jm_n0 jm_d0 jm_p0 dX6_bend_2 (fun H locs hP hD hS => ?_)
  refine lv_aload_n hx hb dX6_bend_5 rfl (lv_at hl 0 rfl) ?_
  refine lv_iload_n hx hb dX6_bend_6 rfl (lv_at hl 2 rfl) ?_
  refine lv_iconst hx hb dX6_bend_7 jx_ki0 ?_
  refine lv_bipush hx hb dX6_bend_8 jx_kb16 ?_
  obtain ⟨q2, eq2, h⟩ := jx_bi_some h
  refine jx_callSi hx hb hml hown hts (jm_in_met eq2) jm_in_g_X6 jm_in_d (As := [.int x2, .int (nI 0), .int (nI 16)]) (by rw [hlv]; decide) hl.1 rfl rfl (lv_room (Nat.le_of_ble_eq_true rfl)) dX6_bend_10 (by rw [hlv]; exact ⟨Nat.zero_le _, Nat.zero_le _⟩) ?_
  refine lv_if_ne (tgt := 20) hx hb dX6_bend_13 rfl (fun c3 => ?_) (fun c3 => ?_)
  · rw [if_neg c3] at h
    refine lv_iconst hx hb dX6_bend_20 jx_ki0 ?_
    exact jm_bend_b21_ok hX F _ _ _ _ _ h _ _ _ hP hD hS hl
  · rw [if_pos c3] at h
    refine lv_iconst hx hb dX6_bend_16 jx_ki1 ?_
    refine lv_goto (tgt := 21) hx hb dX6_bend_17 rfl ?_
    exact jm_bend_b21_ok hX F _ _ _ _ _ h _ _ _ hP hD hS hl
theorem jm_bend_met {l : Launch} {D : va_G} {ck : Nat → ClassId} {ad sa : Nat → Nat} {A : Nat → Prop} {F : Nat} {x1 : Int32} {x2 : Int32} {x3 : Int32} {S : jm_S} {out : Int32 × jm_S} (h : jm_bend F x1 x2 x3 S = some out) : jm_Mi l D ck ad sa A yX6_bend cX6_bend 5 (some .int) 1 [.int x1, .int x2, .int x3] S out :=
  jm_Mi_of ⟨by decide, rfl, Nat.le_of_ble_eq_true rfl⟩ (fun hX => jm_bend_ok hX F x1 x2 x3 S h)
theorem jm_straight_d : yX6_straight.cls = RX6 ∧ yX6_straight.cls ≠ "java/lang/invoke/MethodHandle" ∧ yX6_straight.cls ≠ "java/lang/invoke/VarHandle" ∧ (parseMethodDescriptor yX6_straight.desc).map (fun d => d.parameters.length) = some 0 := by decide +kernel
theorem jm_straight_ok {out : Int32 × jm_S} (hX : jm_Ok p R s m args meth c A D ck ad sa cX6_straight 2 (some .int) 0) (F : Nat)  (S : jm_S) (h : jm_straight F  S = some out) : jm_J p l e R s m args below meth c A D ck ad 2 (jm_Qi below args s A D ck ad sa out) 0 [(0, .ref (ad 0))] [] S := by
  intro H locs ls hP hD hS hl
  have hX0 := hX
  obtain ⟨hx, hb, hml, hown, hts, hlk, hr, hlv, hK, hZ⟩ := hX0
  unfold jm_straight at h
  refine lv_aload_n hx hb dX6_straight_0 rfl (lv_at hl 0 rfl) ?_
  refine lv_iconst hx hb dX6_straight_1 jx_ki0 ?_
  obtain ⟨S1, eS1, h⟩ := jx_nx_some h
  refine jm_put hx hb hts hown hK hP hD hS eS1 jm_f0 (by decide) jm_n0 jm_d0 jm_p0 dX6_straight_2 (fun H locs hP hD hS => ?_)
  refine lv_aload_n hx hb dX6_straight_5 rfl (lv_at hl 0 rfl) ?_
  refine jm_get hx hb hts hown hK hP jm_f1 (by decide) jm_g1 dX6_straight_6 ?_
  refine lv_iconst hx hb dX6_straight_9 jx_ki1 ?_
  obtain ⟨j2, ej2, bj2, h⟩ := jx_ga_some h
  refine jm_iald hx hb hK hP jm_a1 ej2 bj2 dX6_straight_10 ?_
  obtain ⟨y3, ey3, h⟩ := jx_nx_some h
  refine jx_topi ey3 ?_
  refine lv_istore_n (lv' := [(1, .int y3), (0, .ref (ad 0))]) hx hb dX6_straight_11 rfl hl (Nat.le_of_ble_eq_true rfl) rfl (fun ls hl => ?_)
  refine lv_aload_n hx hb dX6_straight_12 rfl (lv_at hl 1 rfl) ?_
  refine jm_get hx hb hts hown hK hP jm_f1 (by decide) jm_g1 dX6_straight_13 ?_
  refine lv_iconst hx hb dX6_straight_16 jx_ki1 ?_
  refine lv_iconst hx hb dX6_straight_17 jx_ki0 ?_
  obtain ⟨j4, ej4, bj4, h⟩ := jx_ga_some h
  obtain ⟨S5, eS5, h⟩ := jx_nx_some h
  refine jm_iast hx hb hK hP hD hS jm_a1 (fun f => jm_u1 f) ej4 bj4 eS5 dX6_straight_18 (fun H locs hP hD hS => ?_)
  refine lv_iload_n hx hb dX6_straight_19 rfl (lv_at hl 0 rfl) ?_
  exact jm_iret hx hb hr hlk hK hZ hP hD hS h dX6_straight_20
theorem jm_straight_met {l : Launch} {D : va_G} {ck : Nat → ClassId} {ad sa : Nat → Nat} {A : Nat → Prop} {F : Nat}  {S : jm_S} {out : Int32 × jm_S} (h : jm_straight F  S = some out) : jm_Mi l D ck ad sa A yX6_straight cX6_straight 2 (some .int) 0 [] S out :=
  jm_Mi_of ⟨by decide, rfl, Nat.le_of_ble_eq_true rfl⟩ (fun hX => jm_straight_ok hX F  S h)
theorem jm_begins_d : yX6_begins.cls = RX6 ∧ yX6_begins.cls ≠ "java/lang/invoke/MethodHandle" ∧ yX6_begins.cls ≠ "java/lang/invoke/VarHandle" ∧ (parseMethodDescriptor yX6_begins.desc).map (fun d => d.parameters.length) = some 0 := by decide +kernel
theorem jm_begins_g : GoodIn lw_all (wsV RX6 334 RX6 yX6_begins (ws_ yX6_begins cX6_begins 2 none)) := lw_V q1918 q1920 qs70 q110 q1921
theorem jm_begins_L2_ok {out : jm_S} (hX : jm_Ok p R s m args meth c A D ck ad sa cX6_begins 2 none 0) (F : Nat) {r2 : Int32 × jm_S → Option (jm_S)} (hr2 : ∀ a, r2 a = some out → jm_J p l e R s m args below meth c A D ck ad 2 (jm_Qv below args s A D ck ad sa out) 2 [(0, .ref (ad 0)), (1, .int a.1)] [] a.2) (x1 : Int32) (S : jm_S) (h : jm_begins_L2 F r2 x1 S = some out) : jm_J p l e R s m args below meth c A D ck ad 2 (jm_Qv below args s A D ck ad sa out) 2 [(0, .ref (ad 0)), (1, .int x1)] [] S := by
  intro H locs ls hP hD hS hl
  have hX0 := hX
  obtain ⟨hx, hb, hml, hown, hts, hlk, hr, hlv, hK, hZ⟩ := hX0
  unfold jm_begins_L2 at h
  refine lv_iload_n hx hb dX6_begins_2 rfl (lv_at hl 1 rfl) ?_
  refine lv_bipush hx hb dX6_begins_3 jx_kb16 ?_
  refine lv_icmp_ge (tgt := 28) hx hb dX6_begins_5 rfl (fun c1 => ?_) (fun c1 => ?_)
  · rw [if_pos c1] at h
    refine lv_aload_n hx hb dX6_begins_28 rfl (lv_at hl 0 rfl) ?_
    refine lv_iconst hx hb dX6_begins_29 jx_ki0 ?_
    obtain ⟨S2, eS2, h⟩ := jx_nx_some h
    refine jm_put hx hb hts hown hK hP hD hS eS2 jm_f21 (by decide) jm_n21 jm_d21 jm_p21 dX6_begins_30 (fun H locs hP hD hS => ?_)
    refine lv_aload_n hx hb dX6_begins_33 rfl (lv_at hl 0 rfl) ?_
    refine lv_iconst hx hb dX6_begins_34 jx_ki0 ?_
    obtain ⟨S3, eS3, h⟩ := jx_nx_some h
    refine jm_put hx hb hts hown hK hP hD hS eS3 jm_f24 (by decide) jm_n24 jm_d24 jm_p24 dX6_begins_35 (fun H locs hP hD hS => ?_)
    refine lv_aload_n hx hb dX6_begins_38 rfl (lv_at hl 0 rfl) ?_
    refine lv_iconst hx hb dX6_begins_39 jx_ki0 ?_
    obtain ⟨S4, eS4, h⟩ := jx_nx_some h
    refine jm_put hx hb hts hown hK hP hD hS eS4 jm_f25 (by decide) jm_n25 jm_d25 jm_p25 dX6_begins_40 (fun H locs hP hD hS => ?_)
    refine lv_aload_n hx hb dX6_begins_43 rfl (lv_at hl 0 rfl) ?_
    refine lv_iconst hx hb dX6_begins_44 jx_ki0 ?_
    obtain ⟨S5, eS5, h⟩ := jx_nx_some h
    refine jm_put hx hb hts hown hK hP hD hS eS5 jm_f27 (by decide) jm_n27 jm_d27 jm_p27 dX6_begins_45 (fun H locs hP hD hS => ?_)
    refine lv_aload_n hx hb dX6_begins_48 rfl (lv_at hl 0 rfl) ?_
    refine lv_iconst hx hb dX6_begins_49 jx_ki0 ?_
    obtain ⟨S6, eS6, h⟩ := jx_nx_some h
    refine jm_put hx hb hts hown hK hP hD hS eS6 jm_f28 (by decide) jm_n28 jm_d28 jm_p28 dX6_begins_50 (fun H locs hP hD hS => ?_)
    refine lv_aload_n hx hb dX6_begins_53 rfl (lv_at hl 0 rfl) ?_
    refine lv_iconst hx hb dX6_begins_54 jx_ki0 ?_
    obtain ⟨S7, eS7, h⟩ := jx_nx_some h
    refine jm_put hx hb hts hown hK hP hD hS eS7 jm_f29 (by decide) jm_n29 jm_d29 jm_p29 dX6_begins_55 (fun H locs hP hD hS => ?_)
    refine lv_aload_n hx hb dX6_begins_58 rfl (lv_at hl 0 rfl) ?_
    refine lv_iconst hx hb dX6_begins_59 jx_kim1 ?_
    obtain ⟨S8, eS8, h⟩ := jx_nx_some h
    refine jm_put hx hb hts hown hK hP hD hS eS8 jm_f30 (by decide) jm_n30 jm_d30 jm_p30 dX6_begins_60 (fun H locs hP hD hS => ?_)
    refine lv_aload_n hx hb dX6_begins_63 rfl (lv_at hl 0 rfl) ?_
    refine lv_iconst hx hb dX6_begins_64 jx_kim1 ?_
    obtain ⟨S9, eS9, h⟩ := jx_nx_some h
    refine jm_put hx hb hts hown hK hP hD hS eS9 jm_f31 (by decide) jm_n31 jm_d31 jm_p31 dX6_begins_65 (fun H locs hP hD hS => ?_)
    refine lv_aload_n hx hb dX6_begins_68 rfl (lv_at hl 0 rfl) ?_
    refine lv_iconst hx hb dX6_begins_69 jx_ki0 ?_
    obtain ⟨S10, eS10, h⟩ := jx_nx_some h
    refine jm_put hx hb hts hown hK hP hD hS eS10 jm_f32 (by decide) jm_n32 jm_d32 jm_p32 dX6_begins_70 (fun H locs hP hD hS => ?_)
    exact jm_vret hx hb hr hlk hK hZ hP hD hS h dX6_begins_73
  · rw [if_neg c1] at h
    refine lv_aload_n hx hb dX6_begins_8 rfl (lv_at hl 0 rfl) ?_
    refine jm_get hx hb hts hown hK hP jm_f16 (by decide) jm_g16 dX6_begins_9 ?_
    refine lv_iload_n hx hb dX6_begins_12 rfl (lv_at hl 1 rfl) ?_
    refine lv_iconst hx hb dX6_begins_13 jx_ki0 ?_
    obtain ⟨j11, ej11, bj11, h⟩ := jx_ga_some h
    obtain ⟨S12, eS12, h⟩ := jx_nx_some h
    refine jm_iast hx hb hK hP hD hS jm_a16 (fun f => jm_u16 f) ej11 bj11 eS12 dX6_begins_14 (fun H locs hP hD hS => ?_)
    refine lv_aload_n hx hb dX6_begins_15 rfl (lv_at hl 0 rfl) ?_
    refine jm_get hx hb hts hown hK hP jm_f17 (by decide) jm_g17 dX6_begins_16 ?_
    refine lv_iload_n hx hb dX6_begins_19 rfl (lv_at hl 1 rfl) ?_
    refine lv_iconst hx hb dX6_begins_20 jx_kim1 ?_
    obtain ⟨j13, ej13, bj13, h⟩ := jx_ga_some h
    obtain ⟨S14, eS14, h⟩ := jx_nx_some h
    refine jm_iast hx hb hK hP hD hS jm_a17 (fun f => jm_u17 f) ej13 bj13 eS14 dX6_begins_21 (fun H locs hP hD hS => ?_)
    obtain ⟨y15, ey15, h⟩ := jx_nx_some h
    refine lv_iinc (v := y15) (lv' := [(1, .int y15), (0, .ref (ad 0))]) hx hb dX6_begins_22 hl (k := 1) rfl (jx_inc jx_ki1 ey15) (Nat.le_of_ble_eq_true rfl) rfl (fun ls hl => ?_)
    refine lv_goto (tgt := 2) hx hb dX6_begins_25 rfl ?_
    exact hr2 _ h _ _ _ hP hD hS (lv_sub hl [1, 0] rfl)
theorem jm_begins_h2_ok {out : jm_S} (hX : jm_Ok p R s m args meth c A D ck ad sa cX6_begins 2 none 0) (F : Nat) (n : Nat) (a : Int32 × jm_S) (h : jm_begins_h2 F n a = some out) : jm_J p l e R s m args below meth c A D ck ad 2 (jm_Qv below args s A D ck ad sa out) 2 [(0, .ref (ad 0)), (1, .int a.1)] [] a.2 :=
  jx_loop_ind (J := fun a => jm_J p l e R s m args below meth c A D ck ad 2 (jm_Qv below args s A D ck ad sa out) 2 [(0, .ref (ad 0)), (1, .int a.1)] [] a.2) (fun r hr a h => jm_begins_L2_ok hX F hr a.1 a.2 h) n a h
theorem jm_begins_ok {out : jm_S} (hX : jm_Ok p R s m args meth c A D ck ad sa cX6_begins 2 none 0) (F : Nat)  (S : jm_S) (h : jm_begins F  S = some out) : jm_J p l e R s m args below meth c A D ck ad 2 (jm_Qv below args s A D ck ad sa out) 0 [(0, .ref (ad 0))] [] S := by
  intro H locs ls hP hD hS hl
  have hX0 := hX
  obtain ⟨hx, hb, hml, hown, hts, hlk, hr, hlv, hK, hZ⟩ := hX0
  unfold jm_begins at h
  refine lv_iconst hx hb dX6_begins_0 jx_ki0 ?_
  obtain ⟨y1, ey1, h⟩ := jx_nx_some h
  refine jx_topi ey1 ?_
  refine lv_istore_n (lv' := [(1, .int y1), (0, .ref (ad 0))]) hx hb dX6_begins_1 rfl hl (Nat.le_of_ble_eq_true rfl) rfl (fun ls hl => ?_)
  exact jm_begins_h2_ok hX F F _ h _ _ _ hP hD hS (lv_sub hl [1, 0] rfl)
theorem jm_begins_met {l : Launch} {D : va_G} {ck : Nat → ClassId} {ad sa : Nat → Nat} {A : Nat → Prop} {F : Nat}  {S : jm_S} {out : jm_S} (h : jm_begins F  S = some out) : jm_Mv l D ck ad sa A yX6_begins cX6_begins 2 none 0 [] S out :=
  jm_Mv_of ⟨by decide, rfl, Nat.le_of_ble_eq_true rfl⟩ (fun hX => jm_begins_ok hX F  S h)
theorem jm_bendsNow_d : yX6_bendsNow.cls = RX6 ∧ yX6_bendsNow.cls ≠ "java/lang/invoke/MethodHandle" ∧ yX6_bendsNow.cls ≠ "java/lang/invoke/VarHandle" ∧ (parseMethodDescriptor yX6_bendsNow.desc).map (fun d => d.parameters.length) = some 0 := by decide +kernel
theorem jm_bendsNow_g : GoodIn lw_all (wsV RX6 337 RX6 yX6_bendsNow (ws_ yX6_bendsNow cX6_bendsNow 4 none)) := lw_V q1922 q1924 qs71 q110 q1925
theorem jm_bendsNow_b113_ok {out : jm_S} (hX : jm_Ok p R s m args meth c A D ck ad sa cX6_bendsNow 4 none 0) (F : Nat) {r2 : Int32 × jm_S → Option (jm_S)} (hr2 : ∀ a, r2 a = some out → jm_J p l e R s m args below meth c A D ck ad 4 (jm_Qv below args s A D ck ad sa out) 2 [(0, .ref (ad 0)), (1, .int a.1)] [] a.2) (x1 : Int32) (S : jm_S) (h : jm_bendsNow_b113 F r2 x1 S = some out) : jm_J p l e R s m args below meth c A D ck ad 4 (jm_Qv below args s A D ck ad sa out) 113 [(0, .ref (ad 0)), (1, .int x1)] [] S := by
  intro H locs ls hP hD hS hl
  have hX0 := hX
  obtain ⟨hx, hb, hml, hown, hts, hlk, hr, hlv, hK, hZ⟩ := hX0
  unfold jm_bendsNow_b113 at h
  obtain ⟨y1, ey1, h⟩ := jx_nx_some h
  refine lv_iinc (v := y1) (lv' := [(1, .int y1), (0, .ref (ad 0))]) hx hb dX6_bendsNow_113 hl (k := 1) rfl (jx_inc jx_ki1 ey1) (Nat.le_of_ble_eq_true rfl) rfl (fun ls hl => ?_)
  refine lv_goto (tgt := 2) hx hb dX6_bendsNow_116 rfl ?_
  exact hr2 _ h _ _ _ hP hD hS (lv_sub hl [1, 0] rfl)
theorem jm_bendsNow_L2_ok {out : jm_S} (hX : jm_Ok p R s m args meth c A D ck ad sa cX6_bendsNow 4 none 0) (F : Nat) {r2 : Int32 × jm_S → Option (jm_S)} (hr2 : ∀ a, r2 a = some out → jm_J p l e R s m args below meth c A D ck ad 4 (jm_Qv below args s A D ck ad sa out) 2 [(0, .ref (ad 0)), (1, .int a.1)] [] a.2) (x1 : Int32) (S : jm_S) (h : jm_bendsNow_L2 F r2 x1 S = some out) : jm_J p l e R s m args below meth c A D ck ad 4 (jm_Qv below args s A D ck ad sa out) 2 [(0, .ref (ad 0)), (1, .int x1)] [] S := by
  intro H locs ls hP hD hS hl
  have hX0 := hX
  obtain ⟨hx, hb, hml, hown, hts, hlk, hr, hlv, hK, hZ⟩ := hX0
  unfold jm_bendsNow_L2 at h
  refine lv_iload_n hx hb dX6_bendsNow_2 rfl (lv_at hl 1 rfl) ?_
  refine lv_aload_n hx hb dX6_bendsNow_3 rfl (lv_at hl 0 rfl) ?_
  refine jm_get hx hb hts hown hK hP jm_f1 (by decide) jm_g1 dX6_bendsNow_4 ?_
  refine lv_iconst hx hb dX6_bendsNow_7 jx_ki1 ?_
  obtain ⟨j1, ej1, bj1, h⟩ := jx_ga_some h
  refine jm_iald hx hb hK hP jm_a1 ej1 bj1 dX6_bendsNow_8 ?_
  refine lv_icmp_ge (tgt := 119) hx hb dX6_bendsNow_9 rfl (fun c2 => ?_) (fun c2 => ?_)
  · rw [if_pos c2] at h
    exact jm_vret hx hb hr hlk hK hZ hP hD hS h dX6_bendsNow_119
  · rw [if_neg c2] at h
    refine lv_sipush hx hb dX6_bendsNow_12 jx_ks368 ?_
    refine lv_iconst hx hb dX6_bendsNow_15 jx_ki3 ?_
    refine lv_iload_n hx hb dX6_bendsNow_16 rfl (lv_at hl 1 rfl) ?_
    refine lv_imul hx hb dX6_bendsNow_17 ?_
    refine lv_iadd hx hb dX6_bendsNow_18 ?_
    obtain ⟨y3, ey3, h⟩ := jx_nx_some h
    refine jx_topi ey3 ?_
    refine lv_istore_n (lv' := [(2, .int y3), (0, .ref (ad 0)), (1, .int x1)]) hx hb dX6_bendsNow_19 rfl hl (Nat.le_of_ble_eq_true rfl) rfl (fun ls hl => ?_)
    refine lv_aload_n hx hb dX6_bendsNow_20 rfl (lv_at hl 1 rfl) ?_
    refine jm_get hx hb hts hown hK hP jm_f1 (by decide) jm_g1 dX6_bendsNow_21 ?_
    refine lv_iload_n hx hb dX6_bendsNow_24 rfl (lv_at hl 0 rfl) ?_
    obtain ⟨j4, ej4, bj4, h⟩ := jx_ga_some h
    refine jm_iald hx hb hK hP jm_a1 ej4 bj4 dX6_bendsNow_25 ?_
    refine lv_aload_n hx hb dX6_bendsNow_26 rfl (lv_at hl 1 rfl) ?_
    refine jm_get hx hb hts hown hK hP jm_f24 (by decide) jm_g24 dX6_bendsNow_27 ?_
    refine lv_icmp_eq (tgt := 36) hx hb dX6_bendsNow_30 rfl (fun c5 => ?_) (fun c5 => ?_)
    · rw [if_pos c5] at h
      refine lv_aload_n hx hb dX6_bendsNow_36 rfl (lv_at hl 1 rfl) ?_
      refine jm_get hx hb hts hown hK hP jm_f1 (by decide) jm_g1 dX6_bendsNow_37 ?_
      refine lv_iload_n hx hb dX6_bendsNow_40 rfl (lv_at hl 0 rfl) ?_
      refine lv_iconst hx hb dX6_bendsNow_41 jx_ki1 ?_
      refine lv_iadd hx hb dX6_bendsNow_42 ?_
      obtain ⟨j6, ej6, bj6, h⟩ := jx_ga_some h
      refine jm_iald hx hb hK hP jm_a1 ej6 bj6 dX6_bendsNow_43 ?_
      obtain ⟨y7, ey7, h⟩ := jx_nx_some h
      refine jx_topi ey7 ?_
      refine lv_istore_n (lv' := [(3, .int y7), (2, .int y3), (0, .ref (ad 0)), (1, .int x1)]) hx hb dX6_bendsNow_44 rfl hl (Nat.le_of_ble_eq_true rfl) rfl (fun ls hl => ?_)
      refine lv_iload_n hx hb dX6_bendsNow_45 rfl (lv_at hl 0 rfl) ?_
      refine lv_bipush hx hb dX6_bendsNow_46 jx_kb16 ?_
      refine lv_icmp_ge (tgt := 75) hx hb dX6_bendsNow_48 rfl (fun c8 => ?_) (fun c8 => ?_)
      · rw [if_pos c8] at h
        refine lv_aload_n hx hb dX6_bendsNow_75 rfl (lv_at hl 2 rfl) ?_
        refine jm_get hx hb hts hown hK hP jm_f21 (by decide) jm_g21 dX6_bendsNow_76 ?_
        refine lv_if_le (tgt := 113) hx hb dX6_bendsNow_79 rfl (fun c9 => ?_) (fun c9 => ?_)
        · rw [if_pos c9] at h
          exact jm_bendsNow_b113_ok hX F hr2 _ _ h _ _ _ hP hD hS (lv_sub hl [2, 3] rfl)
        · rw [if_neg c9] at h
          refine lv_aload_n hx hb dX6_bendsNow_82 rfl (lv_at hl 2 rfl) ?_
          refine jm_get hx hb hts hown hK hP jm_f18 (by decide) jm_g18 dX6_bendsNow_83 ?_
          refine lv_aload_n hx hb dX6_bendsNow_86 rfl (lv_at hl 2 rfl) ?_
          refine jm_get hx hb hts hown hK hP jm_f21 (by decide) jm_g21 dX6_bendsNow_87 ?_
          refine lv_iconst hx hb dX6_bendsNow_90 jx_ki1 ?_
          refine lv_isub hx hb dX6_bendsNow_91 ?_
          refine lv_aload_n hx hb dX6_bendsNow_92 rfl (lv_at hl 2 rfl) ?_
          refine jm_get hx hb hts hown hK hP jm_f1 (by decide) jm_g1 dX6_bendsNow_93 ?_
          refine lv_iload_n hx hb dX6_bendsNow_96 rfl (lv_at hl 1 rfl) ?_
          refine lv_iconst hx hb dX6_bendsNow_97 jx_ki2 ?_
          refine lv_iadd hx hb dX6_bendsNow_98 ?_
          obtain ⟨j10, ej10, bj10, h⟩ := jx_ga_some h
          refine jm_iald hx hb hK hP jm_a1 ej10 bj10 dX6_bendsNow_99 ?_
          obtain ⟨j11, ej11, bj11, h⟩ := jx_ga_some h
          obtain ⟨S12, eS12, h⟩ := jx_nx_some h
          refine jm_iast hx hb hK hP hD hS jm_a18 (fun f => jm_u18 f) ej11 bj11 eS12 dX6_bendsNow_100 (fun H locs hP hD hS => ?_)
          refine lv_aload_n hx hb dX6_bendsNow_101 rfl (lv_at hl 2 rfl) ?_
          refine jm_get hx hb hts hown hK hP jm_f19 (by decide) jm_g19 dX6_bendsNow_102 ?_
          refine lv_aload_n hx hb dX6_bendsNow_105 rfl (lv_at hl 2 rfl) ?_
          refine jm_get hx hb hts hown hK hP jm_f21 (by decide) jm_g21 dX6_bendsNow_106 ?_
          refine lv_iconst hx hb dX6_bendsNow_109 jx_ki1 ?_
          refine lv_isub hx hb dX6_bendsNow_110 ?_
          refine lv_iload_n hx hb dX6_bendsNow_111 rfl (lv_at hl 3 rfl) ?_
          obtain ⟨j13, ej13, bj13, h⟩ := jx_ga_some h
          obtain ⟨S14, eS14, h⟩ := jx_nx_some h
          refine jm_iast hx hb hK hP hD hS jm_a19 (fun f => jm_u19 f) ej13 bj13 eS14 dX6_bendsNow_112 (fun H locs hP hD hS => ?_)
          exact jm_bendsNow_b113_ok hX F hr2 _ _ h _ _ _ hP hD hS (lv_sub hl [2, 3] rfl)
      · rw [if_neg c8] at h
        refine lv_aload_n hx hb dX6_bendsNow_51 rfl (lv_at hl 2 rfl) ?_
        refine jm_get hx hb hts hown hK hP jm_f16 (by decide) jm_g16 dX6_bendsNow_52 ?_
        refine lv_iload_n hx hb dX6_bendsNow_55 rfl (lv_at hl 0 rfl) ?_
        refine lv_aload_n hx hb dX6_bendsNow_56 rfl (lv_at hl 2 rfl) ?_
        refine jm_get hx hb hts hown hK hP jm_f1 (by decide) jm_g1 dX6_bendsNow_57 ?_
        refine lv_iload_n hx hb dX6_bendsNow_60 rfl (lv_at hl 1 rfl) ?_
        refine lv_iconst hx hb dX6_bendsNow_61 jx_ki2 ?_
        refine lv_iadd hx hb dX6_bendsNow_62 ?_
        obtain ⟨j15, ej15, bj15, h⟩ := jx_ga_some h
        refine jm_iald hx hb hK hP jm_a1 ej15 bj15 dX6_bendsNow_63 ?_
        obtain ⟨j16, ej16, bj16, h⟩ := jx_ga_some h
        obtain ⟨S17, eS17, h⟩ := jx_nx_some h
        refine jm_iast hx hb hK hP hD hS jm_a16 (fun f => jm_u16 f) ej16 bj16 eS17 dX6_bendsNow_64 (fun H locs hP hD hS => ?_)
        refine lv_aload_n hx hb dX6_bendsNow_65 rfl (lv_at hl 2 rfl) ?_
        refine jm_get hx hb hts hown hK hP jm_f17 (by decide) jm_g17 dX6_bendsNow_66 ?_
        refine lv_iload_n hx hb dX6_bendsNow_69 rfl (lv_at hl 0 rfl) ?_
        refine lv_iload_n hx hb dX6_bendsNow_70 rfl (lv_at hl 3 rfl) ?_
        obtain ⟨j18, ej18, bj18, h⟩ := jx_ga_some h
        obtain ⟨S19, eS19, h⟩ := jx_nx_some h
        refine jm_iast hx hb hK hP hD hS jm_a17 (fun f => jm_u17 f) ej18 bj18 eS19 dX6_bendsNow_71 (fun H locs hP hD hS => ?_)
        refine lv_goto (tgt := 113) hx hb dX6_bendsNow_72 rfl ?_
        exact jm_bendsNow_b113_ok hX F hr2 _ _ h _ _ _ hP hD hS (lv_sub hl [2, 3] rfl)
    · rw [if_neg c5] at h
      refine lv_goto (tgt := 113) hx hb dX6_bendsNow_33 rfl ?_
      exact jm_bendsNow_b113_ok hX F hr2 _ _ h _ _ _ hP hD hS (lv_sub hl [1, 2] rfl)
theorem jm_bendsNow_h2_ok {out : jm_S} (hX : jm_Ok p R s m args meth c A D ck ad sa cX6_bendsNow 4 none 0) (F : Nat) (n : Nat) (a : Int32 × jm_S) (h : jm_bendsNow_h2 F n a = some out) : jm_J p l e R s m args below meth c A D ck ad 4 (jm_Qv below args s A D ck ad sa out) 2 [(0, .ref (ad 0)), (1, .int a.1)] [] a.2 :=
  jx_loop_ind (J := fun a => jm_J p l e R s m args below meth c A D ck ad 4 (jm_Qv below args s A D ck ad sa out) 2 [(0, .ref (ad 0)), (1, .int a.1)] [] a.2) (fun r hr a h => jm_bendsNow_L2_ok hX F hr a.1 a.2 h) n a h
theorem jm_bendsNow_ok {out : jm_S} (hX : jm_Ok p R s m args meth c A D ck ad sa cX6_bendsNow 4 none 0) (F : Nat)  (S : jm_S) (h : jm_bendsNow F  S = some out) : jm_J p l e R s m args below meth c A D ck ad 4 (jm_Qv below args s A D ck ad sa out) 0 [(0, .ref (ad 0))] [] S := by
  intro H locs ls hP hD hS hl
  have hX0 := hX
  obtain ⟨hx, hb, hml, hown, hts, hlk, hr, hlv, hK, hZ⟩ := hX0
  unfold jm_bendsNow at h
  refine lv_iconst hx hb dX6_bendsNow_0 jx_ki0 ?_
  obtain ⟨y1, ey1, h⟩ := jx_nx_some h
  refine jx_topi ey1 ?_
  refine lv_istore_n (lv' := [(1, .int y1), (0, .ref (ad 0))]) hx hb dX6_bendsNow_1 rfl hl (Nat.le_of_ble_eq_true rfl) rfl (fun ls hl => ?_)
  exact jm_bendsNow_h2_ok hX F F _ h _ _ _ hP hD hS (lv_sub hl [1, 0] rfl)
theorem jm_bendsNow_met {l : Launch} {D : va_G} {ck : Nat → ClassId} {ad sa : Nat → Nat} {A : Nat → Prop} {F : Nat}  {S : jm_S} {out : jm_S} (h : jm_bendsNow F  S = some out) : jm_Mv l D ck ad sa A yX6_bendsNow cX6_bendsNow 4 none 0 [] S out :=
  jm_Mv_of ⟨by decide, rfl, Nat.le_of_ble_eq_true rfl⟩ (fun hX => jm_bendsNow_ok hX F  S h)
theorem jm_valueOf_d : yX6_valueOf.cls = RX6 ∧ yX6_valueOf.cls ≠ "java/lang/invoke/MethodHandle" ∧ yX6_valueOf.cls ≠ "java/lang/invoke/VarHandle" ∧ (parseMethodDescriptor yX6_valueOf.desc).map (fun d => d.parameters.length) = some 1 := by decide +kernel
theorem jm_valueOf_g : GoodIn lw_all (wsV RX6 279 RX6 yX6_valueOf (ws_ yX6_valueOf cX6_valueOf 2 (some .int))) := lw_V q1934 q1936 qs74 q110 q1937
theorem jm_valueOf_ok {out : Int32 × jm_S} (hX : jm_Ok p R s m args meth c A D ck ad sa cX6_valueOf 2 (some .int) 0) (F : Nat) (x1 : Int32) (S : jm_S) (h : jm_valueOf F x1 S = some out) : jm_J p l e R s m args below meth c A D ck ad 2 (jm_Qi below args s A D ck ad sa out) 0 [(0, .ref (ad 0)), (1, .int x1)] [] S := by
  intro H locs ls hP hD hS hl
  have hX0 := hX
  obtain ⟨hx, hb, hml, hown, hts, hlk, hr, hlv, hK, hZ⟩ := hX0
  unfold jm_valueOf at h
  refine lv_iload_n hx hb dX6_valueOf_0 rfl (lv_at hl 1 rfl) ?_
  refine lv_sipush hx hb dX6_valueOf_1 jx_ks1000 ?_
  refine lv_icmp_lt (tgt := 20) hx hb dX6_valueOf_4 rfl (fun c1 => ?_) (fun c1 => ?_)
  · rw [if_pos c1] at h
    refine lv_iload_n hx hb dX6_valueOf_20 rfl (lv_at hl 1 rfl) ?_
    exact jm_iret hx hb hr hlk hK hZ hP hD hS h dX6_valueOf_21
  · rw [if_neg c1] at h
    refine lv_aload_n hx hb dX6_valueOf_7 rfl (lv_at hl 0 rfl) ?_
    refine jm_get hx hb hts hown hK hP jm_f16 (by decide) jm_g16 dX6_valueOf_8 ?_
    refine lv_iload_n hx hb dX6_valueOf_11 rfl (lv_at hl 1 rfl) ?_
    refine lv_sipush hx hb dX6_valueOf_12 jx_ks1000 ?_
    refine lv_isub hx hb dX6_valueOf_15 ?_
    obtain ⟨j2, ej2, bj2, h⟩ := jx_ga_some h
    refine jm_iald hx hb hK hP jm_a16 ej2 bj2 dX6_valueOf_16 ?_
    refine lv_goto (tgt := 21) hx hb dX6_valueOf_17 rfl ?_
    exact jm_iret hx hb hr hlk hK hZ hP hD hS h dX6_valueOf_21
theorem jm_valueOf_met {l : Launch} {D : va_G} {ck : Nat → ClassId} {ad sa : Nat → Nat} {A : Nat → Prop} {F : Nat} {x1 : Int32} {S : jm_S} {out : Int32 × jm_S} (h : jm_valueOf F x1 S = some out) : jm_Mi l D ck ad sa A yX6_valueOf cX6_valueOf 2 (some .int) 0 [.int x1] S out :=
  jm_Mi_of ⟨by decide, rfl, Nat.le_of_ble_eq_true rfl⟩ (fun hX => jm_valueOf_ok hX F x1 S h)
theorem jm_isSo_d : yX6_isSo.cls = RX6 ∧ yX6_isSo.cls ≠ "java/lang/invoke/MethodHandle" ∧ yX6_isSo.cls ≠ "java/lang/invoke/VarHandle" ∧ (parseMethodDescriptor yX6_isSo.desc).map (fun d => d.parameters.length) = some 1 := by decide +kernel
theorem jm_isSo_g : GoodIn lw_all (wsV RX6 303 RX6 yX6_isSo (ws_ yX6_isSo cX6_isSo 5 (some .boolean))) := lw_V q1959 q1961 qs79 q110 q1962
theorem jm_isSo_ok {out : Int32 × jm_S} (hX : jm_Ok p R s m args meth c A D ck ad sa cX6_isSo 5 (some .boolean) 1) (F : Nat) (x1 : Int32) (S : jm_S) (h : jm_isSo F x1 S = some out) : jm_J p l e R s m args below meth c A D ck ad 5 (jm_Qi below args s A D ck ad sa out) 0 [(0, .ref (ad 0)), (1, .int x1)] [] S := by
  intro H locs ls hP hD hS hl
  have hX0 := hX
  obtain ⟨hx, hb, hml, hown, hts, hlk, hr, hlv, hK, hZ⟩ := hX0
  unfold jm_isSo at h
  refine lv_aload_n hx hb dX6_isSo_0 rfl (lv_at hl 0 rfl) ?_
  refine lv_aload_n hx hb dX6_isSo_1 rfl (lv_at hl 0 rfl) ?_
  refine lv_iload_n hx hb dX6_isSo_2 rfl (lv_at hl 1 rfl) ?_
  refine lv_bipush hx hb dX6_isSo_3 jx_kb6 ?_
  obtain ⟨q1, eq1, h⟩ := jx_bi_some h
  refine jm_callI hx hb hml hown hts hlv hK hZ (jm_of_met eq1) jm_of_g jm_of_d (As := [.int x1, .int (nI 6)]) (Nat.le_of_ble_eq_true rfl) (Nat.le_of_ble_eq_true rfl) hP hD hS hl.1 rfl rfl (lv_room (Nat.le_of_ble_eq_true rfl)) dX6_isSo_5 (fun H locs hP hD hS => ?_)
  obtain ⟨q2, eq2, h⟩ := jx_bi_some h
  refine jm_callI hx hb hml hown hts hlv hK hZ (jm_valueOf_met eq2) jm_valueOf_g jm_valueOf_d (As := [.int q1.1]) (Nat.le_of_ble_eq_true rfl) (Nat.le_of_ble_eq_true rfl) hP hD hS hl.1 rfl rfl (lv_room (Nat.le_of_ble_eq_true rfl)) dX6_isSo_8 (fun H locs hP hD hS => ?_)
  obtain ⟨y3, ey3, h⟩ := jx_nx_some h
  refine jx_topi ey3 ?_
  refine lv_istore_n (lv' := [(2, .int y3), (0, .ref (ad 0)), (1, .int x1)]) hx hb dX6_isSo_11 rfl hl (Nat.le_of_ble_eq_true rfl) rfl (fun ls hl => ?_)
  refine lv_aload_n hx hb dX6_isSo_12 rfl (lv_at hl 1 rfl) ?_
  refine lv_aload_n hx hb dX6_isSo_13 rfl (lv_at hl 1 rfl) ?_
  refine lv_iload_n hx hb dX6_isSo_14 rfl (lv_at hl 2 rfl) ?_
  refine lv_bipush hx hb dX6_isSo_15 jx_kb7 ?_
  obtain ⟨q4, eq4, h⟩ := jx_bi_some h
  refine jm_callI hx hb hml hown hts hlv hK hZ (jm_of_met eq4) jm_of_g jm_of_d (As := [.int x1, .int (nI 7)]) (Nat.le_of_ble_eq_true rfl) (Nat.le_of_ble_eq_true rfl) hP hD hS hl.1 rfl rfl (lv_room (Nat.le_of_ble_eq_true rfl)) dX6_isSo_17 (fun H locs hP hD hS => ?_)
  obtain ⟨q5, eq5, h⟩ := jx_bi_some h
  refine jm_callI hx hb hml hown hts hlv hK hZ (jm_valueOf_met eq5) jm_valueOf_g jm_valueOf_d (As := [.int q4.1]) (Nat.le_of_ble_eq_true rfl) (Nat.le_of_ble_eq_true rfl) hP hD hS hl.1 rfl rfl (lv_room (Nat.le_of_ble_eq_true rfl)) dX6_isSo_20 (fun H locs hP hD hS => ?_)
  obtain ⟨y6, ey6, h⟩ := jx_nx_some h
  refine jx_topi ey6 ?_
  refine lv_istore_n (lv' := [(3, .int y6), (2, .int y3), (0, .ref (ad 0)), (1, .int x1)]) hx hb dX6_isSo_23 rfl hl (Nat.le_of_ble_eq_true rfl) rfl (fun ls hl => ?_)
  refine lv_aload_n hx hb dX6_isSo_24 rfl (lv_at hl 2 rfl) ?_
  refine lv_iload_n hx hb dX6_isSo_25 rfl (lv_at hl 3 rfl) ?_
  refine lv_bipush hx hb dX6_isSo_26 jx_kb8 ?_
  obtain ⟨q7, eq7, h⟩ := jx_bi_some h
  refine jm_callI hx hb hml hown hts hlv hK hZ (jm_of_met eq7) jm_of_g jm_of_d (As := [.int x1, .int (nI 8)]) (Nat.le_of_ble_eq_true rfl) (Nat.le_of_ble_eq_true rfl) hP hD hS hl.1 rfl rfl (lv_room (Nat.le_of_ble_eq_true rfl)) dX6_isSo_28 (fun H locs hP hD hS => ?_)
  obtain ⟨y8, ey8, h⟩ := jx_nx_some h
  refine jx_topi ey8 ?_
  refine lv_istore (lv' := [(4, .int y8), (3, .int y6), (2, .int y3), (0, .ref (ad 0)), (1, .int x1)]) hx hb dX6_isSo_31 hl (Nat.le_of_ble_eq_true rfl) rfl (fun ls hl => ?_)
  refine lv_iload hx hb dX6_isSo_33 (lv_at hl 0 rfl) ?_
  refine lv_bipush hx hb dX6_isSo_35 jx_kb60 ?_
  refine lv_icmp_ne (tgt := 53) hx hb dX6_isSo_37 rfl (fun c9 => ?_) (fun c9 => ?_)
  · rw [if_neg c9] at h
    refine lv_iload hx hb dX6_isSo_53 (lv_at hl 0 rfl) ?_
    refine lv_bipush hx hb dX6_isSo_55 jx_kb62 ?_
    refine lv_icmp_ne (tgt := 73) hx hb dX6_isSo_57 rfl (fun c10 => ?_) (fun c10 => ?_)
    · rw [if_neg c10] at h
      refine lv_iload_n hx hb dX6_isSo_73 rfl (lv_at hl 2 rfl) ?_
      refine lv_iload_n hx hb dX6_isSo_74 rfl (lv_at hl 1 rfl) ?_
      refine lv_icmp_ne (tgt := 82) hx hb dX6_isSo_75 rfl (fun c11 => ?_) (fun c11 => ?_)
      · rw [if_neg c11] at h
        refine lv_iconst hx hb dX6_isSo_82 jx_ki0 ?_
        exact jm_zret hx hb hr hlk hK hZ hP hD hS jx_nz0 h dX6_isSo_83
      · rw [if_pos c11] at h
        refine lv_iconst hx hb dX6_isSo_78 jx_ki1 ?_
        refine lv_goto (tgt := 83) hx hb dX6_isSo_79 rfl ?_
        exact jm_zret hx hb hr hlk hK hZ hP hD hS jx_nz1 h dX6_isSo_83
    · rw [if_pos c10] at h
      refine lv_iload_n hx hb dX6_isSo_60 rfl (lv_at hl 2 rfl) ?_
      refine lv_iload_n hx hb dX6_isSo_61 rfl (lv_at hl 1 rfl) ?_
      refine lv_icmp_le (tgt := 69) hx hb dX6_isSo_62 rfl (fun c12 => ?_) (fun c12 => ?_)
      · rw [if_pos c12] at h
        refine lv_iconst hx hb dX6_isSo_69 jx_ki0 ?_
        refine lv_goto (tgt := 83) hx hb dX6_isSo_70 rfl ?_
        exact jm_zret hx hb hr hlk hK hZ hP hD hS jx_nz0 h dX6_isSo_83
      · rw [if_neg c12] at h
        refine lv_iconst hx hb dX6_isSo_65 jx_ki1 ?_
        refine lv_goto (tgt := 83) hx hb dX6_isSo_66 rfl ?_
        exact jm_zret hx hb hr hlk hK hZ hP hD hS jx_nz1 h dX6_isSo_83
  · rw [if_pos c9] at h
    refine lv_iload_n hx hb dX6_isSo_40 rfl (lv_at hl 2 rfl) ?_
    refine lv_iload_n hx hb dX6_isSo_41 rfl (lv_at hl 1 rfl) ?_
    refine lv_icmp_ge (tgt := 49) hx hb dX6_isSo_42 rfl (fun c13 => ?_) (fun c13 => ?_)
    · rw [if_pos c13] at h
      refine lv_iconst hx hb dX6_isSo_49 jx_ki0 ?_
      refine lv_goto (tgt := 83) hx hb dX6_isSo_50 rfl ?_
      exact jm_zret hx hb hr hlk hK hZ hP hD hS jx_nz0 h dX6_isSo_83
    · rw [if_neg c13] at h
      refine lv_iconst hx hb dX6_isSo_45 jx_ki1 ?_
      refine lv_goto (tgt := 83) hx hb dX6_isSo_46 rfl ?_
      exact jm_zret hx hb hr hlk hK hZ hP hD hS jx_nz1 h dX6_isSo_83
theorem jm_isSo_met {l : Launch} {D : va_G} {ck : Nat → ClassId} {ad sa : Nat → Nat} {A : Nat → Prop} {F : Nat} {x1 : Int32} {S : jm_S} {out : Int32 × jm_S} (h : jm_isSo F x1 S = some out) : jm_Mi l D ck ad sa A yX6_isSo cX6_isSo 5 (some .boolean) 1 [.int x1] S out :=
  jm_Mi_of ⟨by decide, rfl, Nat.le_of_ble_eq_true rfl⟩ (fun hX => jm_isSo_ok hX F x1 S h)
theorem jm_keepsPlace_d : yX6_keepsPlace.cls = RX6 ∧ yX6_keepsPlace.cls ≠ "java/lang/invoke/MethodHandle" ∧ yX6_keepsPlace.cls ≠ "java/lang/invoke/VarHandle" ∧ (parseMethodDescriptor yX6_keepsPlace.desc).map (fun d => d.parameters.length) = some 1 := by decide +kernel
theorem jm_keepsPlace_g : GoodIn lw_all (wsV RX6 306 RX6 yX6_keepsPlace (ws_ yX6_keepsPlace cX6_keepsPlace 2 none)) := lw_V q1963 q1965 qs80 q110 q1966
theorem jm_keepsPlace_ok {out : jm_S} (hX : jm_Ok p R s m args meth c A D ck ad sa cX6_keepsPlace 2 none 0) (F : Nat) (x1 : Int32) (S : jm_S) (h : jm_keepsPlace F x1 S = some out) : jm_J p l e R s m args below meth c A D ck ad 2 (jm_Qv below args s A D ck ad sa out) 0 [(0, .ref (ad 0)), (1, .int x1)] [] S := by
  intro H locs ls hP hD hS hl
  have hX0 := hX
  obtain ⟨hx, hb, hml, hown, hts, hlk, hr, hlv, hK, hZ⟩ := hX0
  unfold jm_keepsPlace at h
  refine lv_aload_n hx hb dX6_keepsPlace_0 rfl (lv_at hl 0 rfl) ?_
  refine jm_get hx hb hts hown hK hP jm_f18 (by decide) jm_g18 dX6_keepsPlace_1 ?_
  refine lv_aload_n hx hb dX6_keepsPlace_4 rfl (lv_at hl 0 rfl) ?_
  refine jm_get hx hb hts hown hK hP jm_f21 (by decide) jm_g21 dX6_keepsPlace_5 ?_
  refine lv_iload_n hx hb dX6_keepsPlace_8 rfl (lv_at hl 1 rfl) ?_
  refine lv_iconst hx hb dX6_keepsPlace_9 jx_ki1 ?_
  refine lv_iadd hx hb dX6_keepsPlace_10 ?_
  obtain ⟨j1, ej1, bj1, h⟩ := jx_ga_some h
  obtain ⟨S2, eS2, h⟩ := jx_nx_some h
  refine jm_iast hx hb hK hP hD hS jm_a18 (fun f => jm_u18 f) ej1 bj1 eS2 dX6_keepsPlace_11 (fun H locs hP hD hS => ?_)
  refine lv_aload_n hx hb dX6_keepsPlace_12 rfl (lv_at hl 0 rfl) ?_
  refine jm_get hx hb hts hown hK hP jm_f19 (by decide) jm_g19 dX6_keepsPlace_13 ?_
  refine lv_aload_n hx hb dX6_keepsPlace_16 rfl (lv_at hl 0 rfl) ?_
  refine jm_get hx hb hts hown hK hP jm_f21 (by decide) jm_g21 dX6_keepsPlace_17 ?_
  refine lv_iconst hx hb dX6_keepsPlace_20 jx_kim1 ?_
  obtain ⟨j3, ej3, bj3, h⟩ := jx_ga_some h
  obtain ⟨S4, eS4, h⟩ := jx_nx_some h
  refine jm_iast hx hb hK hP hD hS jm_a19 (fun f => jm_u19 f) ej3 bj3 eS4 dX6_keepsPlace_21 (fun H locs hP hD hS => ?_)
  refine lv_aload_n hx hb dX6_keepsPlace_22 rfl (lv_at hl 0 rfl) ?_
  refine jm_get hx hb hts hown hK hP jm_f20 (by decide) jm_g20 dX6_keepsPlace_23 ?_
  refine lv_aload_n hx hb dX6_keepsPlace_26 rfl (lv_at hl 0 rfl) ?_
  refine jm_get hx hb hts hown hK hP jm_f21 (by decide) jm_g21 dX6_keepsPlace_27 ?_
  refine lv_iload_n hx hb dX6_keepsPlace_30 rfl (lv_at hl 1 rfl) ?_
  refine lv_iconst hx hb dX6_keepsPlace_31 jx_ki1 ?_
  refine lv_iadd hx hb dX6_keepsPlace_32 ?_
  obtain ⟨j5, ej5, bj5, h⟩ := jx_ga_some h
  obtain ⟨S6, eS6, h⟩ := jx_nx_some h
  refine jm_iast hx hb hK hP hD hS jm_a20 (fun f => jm_u20 f) ej5 bj5 eS6 dX6_keepsPlace_33 (fun H locs hP hD hS => ?_)
  refine lv_aload_n hx hb dX6_keepsPlace_34 rfl (lv_at hl 0 rfl) ?_
  refine lv_dup hx hb dX6_keepsPlace_35 rfl ?_
  refine jm_get hx hb hts hown hK hP jm_f21 (by decide) jm_g21 dX6_keepsPlace_36 ?_
  refine lv_iconst hx hb dX6_keepsPlace_39 jx_ki1 ?_
  refine lv_iadd hx hb dX6_keepsPlace_40 ?_
  obtain ⟨S7, eS7, h⟩ := jx_nx_some h
  refine jm_put hx hb hts hown hK hP hD hS eS7 jm_f21 (by decide) jm_n21 jm_d21 jm_p21 dX6_keepsPlace_41 (fun H locs hP hD hS => ?_)
  exact jm_vret hx hb hr hlk hK hZ hP hD hS h dX6_keepsPlace_44
theorem jm_keepsPlace_met {l : Launch} {D : va_G} {ck : Nat → ClassId} {ad sa : Nat → Nat} {A : Nat → Prop} {F : Nat} {x1 : Int32} {S : jm_S} {out : jm_S} (h : jm_keepsPlace F x1 S = some out) : jm_Mv l D ck ad sa A yX6_keepsPlace cX6_keepsPlace 2 none 0 [.int x1] S out :=
  jm_Mv_of ⟨by decide, rfl, Nat.le_of_ble_eq_true rfl⟩ (fun hX => jm_keepsPlace_ok hX F x1 S h)
theorem jm_sumOf_d : yX6_sumOf.cls = RX6 ∧ yX6_sumOf.cls ≠ "java/lang/invoke/MethodHandle" ∧ yX6_sumOf.cls ≠ "java/lang/invoke/VarHandle" ∧ (parseMethodDescriptor yX6_sumOf.desc).map (fun d => d.parameters.length) = some 1 := by decide +kernel
theorem jm_sumOf_g : GoodIn lw_all (wsV RX6 282 RX6 yX6_sumOf (ws_ yX6_sumOf cX6_sumOf 7 (some .long))) := lw_V q1930 q1932 qs73 q110 q1933
theorem jm_sumOf_ok {out : Int64 × jm_S} (hX : jm_Ok p R s m args meth c A D ck ad sa cX6_sumOf 7 (some .long) 1) (F : Nat) (x1 : Int32) (S : jm_S) (h : jm_sumOf F x1 S = some out) : jm_J p l e R s m args below meth c A D ck ad 7 (jm_Ql below args s A D ck ad sa out) 0 [(0, .ref (ad 0)), (1, .int x1)] [] S := by
  intro H locs ls hP hD hS hl
  have hX0 := hX
  obtain ⟨hx, hb, hml, hown, hts, hlk, hr, hlv, hK, hZ⟩ := hX0
  unfold jm_sumOf at h
  refine lv_aload_n hx hb dX6_sumOf_0 rfl (lv_at hl 0 rfl) ?_
  refine lv_aload_n hx hb dX6_sumOf_1 rfl (lv_at hl 0 rfl) ?_
  refine lv_iload_n hx hb dX6_sumOf_2 rfl (lv_at hl 1 rfl) ?_
  refine lv_bipush hx hb dX6_sumOf_3 jx_kb6 ?_
  obtain ⟨q1, eq1, h⟩ := jx_bi_some h
  refine jm_callI hx hb hml hown hts hlv hK hZ (jm_of_met eq1) jm_of_g jm_of_d (As := [.int x1, .int (nI 6)]) (Nat.le_of_ble_eq_true rfl) (Nat.le_of_ble_eq_true rfl) hP hD hS hl.1 rfl rfl (lv_room (Nat.le_of_ble_eq_true rfl)) dX6_sumOf_5 (fun H locs hP hD hS => ?_)
  obtain ⟨q2, eq2, h⟩ := jx_bi_some h
  refine jm_callI hx hb hml hown hts hlv hK hZ (jm_valueOf_met eq2) jm_valueOf_g jm_valueOf_d (As := [.int q1.1]) (Nat.le_of_ble_eq_true rfl) (Nat.le_of_ble_eq_true rfl) hP hD hS hl.1 rfl rfl (lv_room (Nat.le_of_ble_eq_true rfl)) dX6_sumOf_8 (fun H locs hP hD hS => ?_)
  refine lv_i2l hx hb dX6_sumOf_11 rfl ?_
  obtain ⟨y3, ey3, h⟩ := jx_nx_some h
  refine jx_topl ey3 ?_
  refine lv_lstore_n (lv' := [(2, .long y3), (0, .ref (ad 0)), (1, .int x1)]) hx hb dX6_sumOf_12 rfl hl (Nat.le_of_ble_eq_true rfl) rfl (fun ls hl => ?_)
  refine lv_aload_n hx hb dX6_sumOf_13 rfl (lv_at hl 1 rfl) ?_
  refine lv_iload_n hx hb dX6_sumOf_14 rfl (lv_at hl 2 rfl) ?_
  refine lv_bipush hx hb dX6_sumOf_15 jx_kb8 ?_
  obtain ⟨q4, eq4, h⟩ := jx_bi_some h
  refine jm_callI hx hb hml hown hts hlv hK hZ (jm_of_met eq4) jm_of_g jm_of_d (As := [.int x1, .int (nI 8)]) (Nat.le_of_ble_eq_true rfl) (Nat.le_of_ble_eq_true rfl) hP hD hS hl.1 rfl rfl (lv_room (Nat.le_of_ble_eq_true rfl)) dX6_sumOf_17 (fun H locs hP hD hS => ?_)
  obtain ⟨y5, ey5, h⟩ := jx_nx_some h
  refine jx_topi ey5 ?_
  refine lv_istore (lv' := [(4, .int y5), (2, .long y3), (0, .ref (ad 0)), (1, .int x1)]) hx hb dX6_sumOf_20 hl (Nat.le_of_ble_eq_true rfl) rfl (fun ls hl => ?_)
  refine lv_iload hx hb dX6_sumOf_22 (lv_at hl 0 rfl) ?_
  refine lv_if_ne (tgt := 29) hx hb dX6_sumOf_24 rfl (fun c6 => ?_) (fun c6 => ?_)
  · rw [if_neg c6] at h
    refine lv_aload_n hx hb dX6_sumOf_29 rfl (lv_at hl 2 rfl) ?_
    refine lv_aload_n hx hb dX6_sumOf_30 rfl (lv_at hl 2 rfl) ?_
    refine lv_iload_n hx hb dX6_sumOf_31 rfl (lv_at hl 3 rfl) ?_
    refine lv_bipush hx hb dX6_sumOf_32 jx_kb7 ?_
    obtain ⟨q7, eq7, h⟩ := jx_bi_some h
    refine jm_callI hx hb hml hown hts hlv hK hZ (jm_of_met eq7) jm_of_g jm_of_d (As := [.int x1, .int (nI 7)]) (Nat.le_of_ble_eq_true rfl) (Nat.le_of_ble_eq_true rfl) hP hD hS hl.1 rfl rfl (lv_room (Nat.le_of_ble_eq_true rfl)) dX6_sumOf_34 (fun H locs hP hD hS => ?_)
    obtain ⟨q8, eq8, h⟩ := jx_bi_some h
    refine jm_callI hx hb hml hown hts hlv hK hZ (jm_valueOf_met eq8) jm_valueOf_g jm_valueOf_d (As := [.int q7.1]) (Nat.le_of_ble_eq_true rfl) (Nat.le_of_ble_eq_true rfl) hP hD hS hl.1 rfl rfl (lv_room (Nat.le_of_ble_eq_true rfl)) dX6_sumOf_37 (fun H locs hP hD hS => ?_)
    refine lv_i2l hx hb dX6_sumOf_40 rfl ?_
    obtain ⟨y9, ey9, h⟩ := jx_nx_some h
    refine jx_topl ey9 ?_
    refine lv_lstore (lv' := [(5, .long y9), (4, .int y5), (2, .long y3), (0, .ref (ad 0)), (1, .int x1)]) hx hb dX6_sumOf_41 hl (Nat.le_of_ble_eq_true rfl) rfl (fun ls hl => ?_)
    refine lv_iload hx hb dX6_sumOf_43 (lv_at hl 1 rfl) ?_
    refine lv_bipush hx hb dX6_sumOf_45 jx_kb43 ?_
    refine lv_icmp_ne (tgt := 57) hx hb dX6_sumOf_47 rfl (fun c10 => ?_) (fun c10 => ?_)
    · rw [if_neg c10] at h
      refine lv_iload hx hb dX6_sumOf_57 (lv_at hl 1 rfl) ?_
      refine lv_bipush hx hb dX6_sumOf_59 jx_kb45 ?_
      refine lv_icmp_ne (tgt := 71) hx hb dX6_sumOf_61 rfl (fun c11 => ?_) (fun c11 => ?_)
      · rw [if_neg c11] at h
        refine lv_lload_n hx hb dX6_sumOf_71 rfl (lv_at hl 2 rfl) ?_
        refine lv_lload hx hb dX6_sumOf_72 (lv_at hl 0 rfl) ?_
        refine lv_lmul hx hb dX6_sumOf_74 ?_
        exact jm_lret hx hb hr hlk hK hZ hP hD hS h dX6_sumOf_75
      · rw [if_pos c11] at h
        refine lv_lload_n hx hb dX6_sumOf_64 rfl (lv_at hl 2 rfl) ?_
        refine lv_lload hx hb dX6_sumOf_65 (lv_at hl 0 rfl) ?_
        refine lv_lsub hx hb dX6_sumOf_67 ?_
        refine lv_goto (tgt := 75) hx hb dX6_sumOf_68 rfl ?_
        exact jm_lret hx hb hr hlk hK hZ hP hD hS h dX6_sumOf_75
    · rw [if_pos c10] at h
      refine lv_lload_n hx hb dX6_sumOf_50 rfl (lv_at hl 2 rfl) ?_
      refine lv_lload hx hb dX6_sumOf_51 (lv_at hl 0 rfl) ?_
      refine lv_ladd hx hb dX6_sumOf_53 ?_
      refine lv_goto (tgt := 75) hx hb dX6_sumOf_54 rfl ?_
      exact jm_lret hx hb hr hlk hK hZ hP hD hS h dX6_sumOf_75
  · rw [if_pos c6] at h
    refine lv_lload_n hx hb dX6_sumOf_27 rfl (lv_at hl 1 rfl) ?_
    exact jm_lret hx hb hr hlk hK hZ hP hD hS h dX6_sumOf_28
theorem jm_sumOf_met {l : Launch} {D : va_G} {ck : Nat → ClassId} {ad sa : Nat → Nat} {A : Nat → Prop} {F : Nat} {x1 : Int32} {S : jm_S} {out : Int64 × jm_S} (h : jm_sumOf F x1 S = some out) : jm_Ml l D ck ad sa A yX6_sumOf cX6_sumOf 7 (some .long) 1 [.int x1] S out :=
  jm_Ml_of ⟨by decide, rfl, Nat.le_of_ble_eq_true rfl⟩ (fun hX => jm_sumOf_ok hX F x1 S h)
theorem jm_writes_d : yX6_writes.cls = RX6 ∧ yX6_writes.cls ≠ "java/lang/invoke/MethodHandle" ∧ yX6_writes.cls ≠ "java/lang/invoke/VarHandle" ∧ (parseMethodDescriptor yX6_writes.desc).map (fun d => d.parameters.length) = some 2 := by decide +kernel
theorem jm_writes_g : GoodIn lw_all (wsV RX6 299 RX6 yX6_writes (ws_ yX6_writes cX6_writes 3 none)) := lw_V q1955 q1957 qs78 q110 q1958
theorem jm_writes_ok {out : jm_S} (hX : jm_Ok p R s m args meth c A D ck ad sa cX6_writes 3 none 0) (F : Nat) (x1 : Int32) (x2 : Int32) (S : jm_S) (h : jm_writes F x1 x2 S = some out) : jm_J p l e R s m args below meth c A D ck ad 3 (jm_Qv below args s A D ck ad sa out) 0 [(0, .ref (ad 0)), (1, .int x1), (2, .int x2)] [] S := by
  intro H locs ls hP hD hS hl
  have hX0 := hX
  obtain ⟨hx, hb, hml, hown, hts, hlk, hr, hlv, hK, hZ⟩ := hX0
  unfold jm_writes at h
  refine lv_aload_n hx hb dX6_writes_0 rfl (lv_at hl 0 rfl) ?_
  refine jm_get hx hb hts hown hK hP jm_f16 (by decide) jm_g16 dX6_writes_1 ?_
  refine lv_iload_n hx hb dX6_writes_4 rfl (lv_at hl 1 rfl) ?_
  refine lv_iload_n hx hb dX6_writes_5 rfl (lv_at hl 2 rfl) ?_
  obtain ⟨j1, ej1, bj1, h⟩ := jx_ga_some h
  obtain ⟨S2, eS2, h⟩ := jx_nx_some h
  refine jm_iast hx hb hK hP hD hS jm_a16 (fun f => jm_u16 f) ej1 bj1 eS2 dX6_writes_6 (fun H locs hP hD hS => ?_)
  refine lv_aload_n hx hb dX6_writes_7 rfl (lv_at hl 0 rfl) ?_
  refine jm_get hx hb hts hown hK hP jm_f17 (by decide) jm_g17 dX6_writes_8 ?_
  refine lv_iload_n hx hb dX6_writes_11 rfl (lv_at hl 1 rfl) ?_
  refine lv_iconst hx hb dX6_writes_12 jx_kim1 ?_
  obtain ⟨j3, ej3, bj3, h⟩ := jx_ga_some h
  obtain ⟨S4, eS4, h⟩ := jx_nx_some h
  refine jm_iast hx hb hK hP hD hS jm_a17 (fun f => jm_u17 f) ej3 bj3 eS4 dX6_writes_13 (fun H locs hP hD hS => ?_)
  exact jm_vret hx hb hr hlk hK hZ hP hD hS h dX6_writes_14
theorem jm_writes_met {l : Launch} {D : va_G} {ck : Nat → ClassId} {ad sa : Nat → Nat} {A : Nat → Prop} {F : Nat} {x1 : Int32} {x2 : Int32} {S : jm_S} {out : jm_S} (h : jm_writes F x1 x2 S = some out) : jm_Mv l D ck ad sa A yX6_writes cX6_writes 3 none 0 [.int x1, .int x2] S out :=
  jm_Mv_of ⟨by decide, rfl, Nat.le_of_ble_eq_true rfl⟩ (fun hX => jm_writes_ok hX F x1 x2 S h)
theorem jm_does_d : yX6_does.cls = RX6 ∧ yX6_does.cls ≠ "java/lang/invoke/MethodHandle" ∧ yX6_does.cls ≠ "java/lang/invoke/VarHandle" ∧ (parseMethodDescriptor yX6_does.desc).map (fun d => d.parameters.length) = some 1 := by decide +kernel
theorem jm_does_g : GoodIn lw_all (wsV RX6 349 RX6 yX6_does (ws_ yX6_does cX6_does 3 (some .int))) := lw_V q1951 q1953 qs77 q110 q1954
theorem jm_does_ok {out : Int32 × jm_S} (hX : jm_Ok p R s m args meth c A D ck ad sa cX6_does 3 (some .int) 2) (F : Nat) (x1 : Int32) (S : jm_S) (h : jm_does F x1 S = some out) : jm_J p l e R s m args below meth c A D ck ad 3 (jm_Qi below args s A D ck ad sa out) 0 [(0, .ref (ad 0)), (1, .int x1)] [] S := by
  intro H locs ls hP hD hS hl
  have hX0 := hX
  obtain ⟨hx, hb, hml, hown, hts, hlk, hr, hlv, hK, hZ⟩ := hX0
  unfold jm_does at h
  refine lv_aload_n hx hb dX6_does_0 rfl (lv_at hl 0 rfl) ?_
  refine lv_iload_n hx hb dX6_does_1 rfl (lv_at hl 1 rfl) ?_
  refine lv_iconst hx hb dX6_does_2 jx_ki5 ?_
  obtain ⟨q1, eq1, h⟩ := jx_bi_some h
  refine jm_callI hx hb hml hown hts hlv hK hZ (jm_of_met eq1) jm_of_g jm_of_d (As := [.int x1, .int (nI 5)]) (Nat.le_of_ble_eq_true rfl) (Nat.le_of_ble_eq_true rfl) hP hD hS hl.1 rfl rfl (lv_room (Nat.le_of_ble_eq_true rfl)) dX6_does_3 (fun H locs hP hD hS => ?_)
  obtain ⟨y2, ey2, h⟩ := jx_nx_some h
  refine jx_topi ey2 ?_
  refine lv_istore_n (lv' := [(2, .int y2), (0, .ref (ad 0)), (1, .int x1)]) hx hb dX6_does_6 rfl hl (Nat.le_of_ble_eq_true rfl) rfl (fun ls hl => ?_)
  refine lv_aload_n hx hb dX6_does_7 rfl (lv_at hl 1 rfl) ?_
  refine lv_iload_n hx hb dX6_does_8 rfl (lv_at hl 2 rfl) ?_
  obtain ⟨q3, eq3, h⟩ := jx_bi_some h
  refine jm_callI hx hb hml hown hts hlv hK hZ (jm_wordOf_met eq3) jm_wordOf_g jm_wordOf_d (As := [.int x1]) (Nat.le_of_ble_eq_true rfl) (Nat.le_of_ble_eq_true rfl) hP hD hS hl.1 rfl rfl (lv_room (Nat.le_of_ble_eq_true rfl)) dX6_does_9 (fun H locs hP hD hS => ?_)
  by_cases sw12_0 : q3.1 = nI 0
  · rw [if_pos sw12_0] at h
    refine lv_tableIn (tgt := 64) (off := 52) hx hb dX6_does_12 (by rw [sw12_0]; decide) (by rw [sw12_0]; decide) (by rw [sw12_0]; decide) rfl ?_
    refine lv_aload_n hx hb dX6_does_64 rfl (lv_at hl 1 rfl) ?_
    refine lv_iload_n hx hb dX6_does_65 rfl (lv_at hl 0 rfl) ?_
    refine lv_aload_n hx hb dX6_does_66 rfl (lv_at hl 1 rfl) ?_
    refine lv_iload_n hx hb dX6_does_67 rfl (lv_at hl 2 rfl) ?_
    obtain ⟨q4, eq4, h⟩ := jx_bi_some h
    refine jm_callL hx hb hml hown hts hlv hK hZ (jm_sumOf_met eq4) jm_sumOf_g jm_sumOf_d (As := [.int x1]) (Nat.le_of_ble_eq_true rfl) (Nat.le_of_ble_eq_true rfl) hP hD hS hl.1 rfl rfl (lv_room (Nat.le_of_ble_eq_true rfl)) dX6_does_68 (fun H locs hP hD hS => ?_)
    refine lv_l2i hx hb dX6_does_71 rfl ?_
    obtain ⟨q5, eq5, h⟩ := jx_bi_some h
    refine jm_callV hx hb hml hown hts hlv hK hZ (jm_writes_met eq5) jm_writes_g jm_writes_d (As := [.int y2, .int q4.1.toInt32]) (Nat.le_of_ble_eq_true rfl) (Nat.le_of_ble_eq_true rfl) hP hD hS hl.1 rfl rfl (lv_room (Nat.le_of_ble_eq_true rfl)) dX6_does_72 (fun H locs hP hD hS => ?_)
    refine lv_iload_n hx hb dX6_does_75 rfl (lv_at hl 2 rfl) ?_
    refine lv_iconst hx hb dX6_does_76 jx_ki1 ?_
    refine lv_iadd hx hb dX6_does_77 ?_
    exact jm_iret hx hb hr hlk hK hZ hP hD hS h dX6_does_78
  · rw [if_neg sw12_0] at h
    by_cases sw12_1 : q3.1 = nI 1
    · rw [if_pos sw12_1] at h
      refine lv_tableIn (tgt := 79) (off := 67) hx hb dX6_does_12 (by rw [sw12_1]; decide) (by rw [sw12_1]; decide) (by rw [sw12_1]; decide) rfl ?_
      refine lv_aload_n hx hb dX6_does_79 rfl (lv_at hl 1 rfl) ?_
      refine lv_iload_n hx hb dX6_does_80 rfl (lv_at hl 0 rfl) ?_
      refine lv_aload_n hx hb dX6_does_81 rfl (lv_at hl 1 rfl) ?_
      refine lv_iload_n hx hb dX6_does_82 rfl (lv_at hl 2 rfl) ?_
      refine lv_iconst hx hb dX6_does_83 jx_ki4 ?_
      obtain ⟨q6, eq6, h⟩ := jx_bi_some h
      refine jm_callI hx hb hml hown hts hlv hK hZ (jm_of_met eq6) jm_of_g jm_of_d (As := [.int x1, .int (nI 4)]) (Nat.le_of_ble_eq_true rfl) (Nat.le_of_ble_eq_true rfl) hP hD hS hl.1 rfl rfl (lv_room (Nat.le_of_ble_eq_true rfl)) dX6_does_84 (fun H locs hP hD hS => ?_)
      obtain ⟨q7, eq7, h⟩ := jx_bi_some h
      refine jm_callV hx hb hml hown hts hlv hK hZ (jm_writes_met eq7) jm_writes_g jm_writes_d (As := [.int y2, .int q6.1]) (Nat.le_of_ble_eq_true rfl) (Nat.le_of_ble_eq_true rfl) hP hD hS hl.1 rfl rfl (lv_room (Nat.le_of_ble_eq_true rfl)) dX6_does_87 (fun H locs hP hD hS => ?_)
      refine lv_iload_n hx hb dX6_does_90 rfl (lv_at hl 2 rfl) ?_
      refine lv_iconst hx hb dX6_does_91 jx_ki1 ?_
      refine lv_iadd hx hb dX6_does_92 ?_
      exact jm_iret hx hb hr hlk hK hZ hP hD hS h dX6_does_93
    · rw [if_neg sw12_1] at h
      by_cases sw12_2 : q3.1 = nI 2
      · rw [if_pos sw12_2] at h
        refine lv_tableIn (tgt := 94) (off := 82) hx hb dX6_does_12 (by rw [sw12_2]; decide) (by rw [sw12_2]; decide) (by rw [sw12_2]; decide) rfl ?_
        refine lv_aload_n hx hb dX6_does_94 rfl (lv_at hl 1 rfl) ?_
        refine lv_iload_n hx hb dX6_does_95 rfl (lv_at hl 2 rfl) ?_
        refine lv_iconst hx hb dX6_does_96 jx_ki4 ?_
        obtain ⟨q8, eq8, h⟩ := jx_bi_some h
        refine jm_callI hx hb hml hown hts hlv hK hZ (jm_of_met eq8) jm_of_g jm_of_d (As := [.int x1, .int (nI 4)]) (Nat.le_of_ble_eq_true rfl) (Nat.le_of_ble_eq_true rfl) hP hD hS hl.1 rfl rfl (lv_room (Nat.le_of_ble_eq_true rfl)) dX6_does_97 (fun H locs hP hD hS => ?_)
        exact jm_iret hx hb hr hlk hK hZ hP hD hS h dX6_does_100
      · rw [if_neg sw12_2] at h
        by_cases sw12_3 : q3.1 = nI 3
        · rw [if_pos sw12_3] at h
          refine lv_tableIn (tgt := 101) (off := 89) hx hb dX6_does_12 (by rw [sw12_3]; decide) (by rw [sw12_3]; decide) (by rw [sw12_3]; decide) rfl ?_
          refine lv_aload_n hx hb dX6_does_101 rfl (lv_at hl 1 rfl) ?_
          refine lv_iload_n hx hb dX6_does_102 rfl (lv_at hl 2 rfl) ?_
          obtain ⟨q9, eq9, h⟩ := jx_bi_some h
          refine jm_callI hx hb hml hown hts hlv hK hZ (jm_isSo_met eq9) jm_isSo_g jm_isSo_d (As := [.int x1]) (Nat.le_of_ble_eq_true rfl) (Nat.le_of_ble_eq_true rfl) hP hD hS hl.1 rfl rfl (lv_room (Nat.le_of_ble_eq_true rfl)) dX6_does_103 (fun H locs hP hD hS => ?_)
          refine lv_if_eq (tgt := 118) hx hb dX6_does_106 rfl (fun c10 => ?_) (fun c10 => ?_)
          · rw [if_pos c10] at h
            refine lv_iload_n hx hb dX6_does_118 rfl (lv_at hl 2 rfl) ?_
            refine lv_iconst hx hb dX6_does_119 jx_ki1 ?_
            refine lv_iadd hx hb dX6_does_120 ?_
            exact jm_iret hx hb hr hlk hK hZ hP hD hS h dX6_does_121
          · rw [if_neg c10] at h
            refine lv_aload_n hx hb dX6_does_109 rfl (lv_at hl 1 rfl) ?_
            refine lv_iload_n hx hb dX6_does_110 rfl (lv_at hl 2 rfl) ?_
            refine lv_iconst hx hb dX6_does_111 jx_ki4 ?_
            obtain ⟨q11, eq11, h⟩ := jx_bi_some h
            refine jm_callI hx hb hml hown hts hlv hK hZ (jm_of_met eq11) jm_of_g jm_of_d (As := [.int x1, .int (nI 4)]) (Nat.le_of_ble_eq_true rfl) (Nat.le_of_ble_eq_true rfl) hP hD hS hl.1 rfl rfl (lv_room (Nat.le_of_ble_eq_true rfl)) dX6_does_112 (fun H locs hP hD hS => ?_)
            refine lv_goto (tgt := 121) hx hb dX6_does_115 rfl ?_
            exact jm_iret hx hb hr hlk hK hZ hP hD hS h dX6_does_121
        · rw [if_neg sw12_3] at h
          by_cases sw12_4 : q3.1 = nI 4
          · rw [if_pos sw12_4] at h
            refine lv_tableIn (tgt := 122) (off := 110) hx hb dX6_does_12 (by rw [sw12_4]; decide) (by rw [sw12_4]; decide) (by rw [sw12_4]; decide) rfl ?_
            refine lv_aload_n hx hb dX6_does_122 rfl (lv_at hl 1 rfl) ?_
            refine jm_get hx hb hts hown hK hP jm_f16 (by decide) jm_g16 dX6_does_123 ?_
            refine lv_iload_n hx hb dX6_does_126 rfl (lv_at hl 0 rfl) ?_
            obtain ⟨j12, ej12, bj12, h⟩ := jx_ga_some h
            refine jm_iald hx hb hK hP jm_a16 ej12 bj12 dX6_does_127 ?_
            exact jm_iret hx hb hr hlk hK hZ hP hD hS h dX6_does_128
          · rw [if_neg sw12_4] at h
            by_cases sw12_5 : q3.1 = nI 5
            · rw [if_pos sw12_5] at h
              refine lv_tableIn (tgt := 129) (off := 117) hx hb dX6_does_12 (by rw [sw12_5]; decide) (by rw [sw12_5]; decide) (by rw [sw12_5]; decide) rfl ?_
              refine lv_aload_n hx hb dX6_does_129 rfl (lv_at hl 1 rfl) ?_
              refine lv_iload_n hx hb dX6_does_130 rfl (lv_at hl 2 rfl) ?_
              obtain ⟨q13, eq13, h⟩ := jx_bi_some h
              refine jm_callV hx hb hml hown hts hlv hK hZ (jm_keepsPlace_met eq13) jm_keepsPlace_g jm_keepsPlace_d (As := [.int x1]) (Nat.le_of_ble_eq_true rfl) (Nat.le_of_ble_eq_true rfl) hP hD hS hl.1 rfl rfl (lv_room (Nat.le_of_ble_eq_true rfl)) dX6_does_131 (fun H locs hP hD hS => ?_)
              refine lv_aload_n hx hb dX6_does_134 rfl (lv_at hl 1 rfl) ?_
              refine lv_iload_n hx hb dX6_does_135 rfl (lv_at hl 2 rfl) ?_
              refine lv_iconst hx hb dX6_does_136 jx_ki4 ?_
              obtain ⟨q14, eq14, h⟩ := jx_bi_some h
              refine jm_callI hx hb hml hown hts hlv hK hZ (jm_of_met eq14) jm_of_g jm_of_d (As := [.int x1, .int (nI 4)]) (Nat.le_of_ble_eq_true rfl) (Nat.le_of_ble_eq_true rfl) hP hD hS hl.1 rfl rfl (lv_room (Nat.le_of_ble_eq_true rfl)) dX6_does_137 (fun H locs hP hD hS => ?_)
              exact jm_iret hx hb hr hlk hK hZ hP hD hS h dX6_does_140
            · rw [if_neg sw12_5] at h
              by_cases sw12_6 : q3.1 = nI 6
              · rw [if_pos sw12_6] at h
                refine lv_tableIn (tgt := 141) (off := 129) hx hb dX6_does_12 (by rw [sw12_6]; decide) (by rw [sw12_6]; decide) (by rw [sw12_6]; decide) rfl ?_
                refine lv_aload_n hx hb dX6_does_141 rfl (lv_at hl 1 rfl) ?_
                refine lv_iload_n hx hb dX6_does_142 rfl (lv_at hl 2 rfl) ?_
                obtain ⟨q15, eq15, h⟩ := jx_bi_some h
                refine jm_callV hx hb hml hown hts hlv hK hZ (jm_keepsPlace_met eq15) jm_keepsPlace_g jm_keepsPlace_d (As := [.int x1]) (Nat.le_of_ble_eq_true rfl) (Nat.le_of_ble_eq_true rfl) hP hD hS hl.1 rfl rfl (lv_room (Nat.le_of_ble_eq_true rfl)) dX6_does_143 (fun H locs hP hD hS => ?_)
                refine lv_aload_n hx hb dX6_does_146 rfl (lv_at hl 1 rfl) ?_
                refine jm_get hx hb hts hown hK hP jm_f16 (by decide) jm_g16 dX6_does_147 ?_
                refine lv_iload_n hx hb dX6_does_150 rfl (lv_at hl 0 rfl) ?_
                obtain ⟨j16, ej16, bj16, h⟩ := jx_ga_some h
                refine jm_iald hx hb hK hP jm_a16 ej16 bj16 dX6_does_151 ?_
                exact jm_iret hx hb hr hlk hK hZ hP hD hS h dX6_does_152
              · rw [if_neg sw12_6] at h
                by_cases sw12_7 : q3.1 = nI 7
                · rw [if_pos sw12_7] at h
                  refine lv_tableIn (tgt := 153) (off := 141) hx hb dX6_does_12 (by rw [sw12_7]; decide) (by rw [sw12_7]; decide) (by rw [sw12_7]; decide) rfl ?_
                  refine lv_aload_n hx hb dX6_does_153 rfl (lv_at hl 1 rfl) ?_
                  refine lv_dup hx hb dX6_does_154 rfl ?_
                  refine jm_get hx hb hts hown hK hP jm_f21 (by decide) jm_g21 dX6_does_155 ?_
                  refine lv_iconst hx hb dX6_does_158 jx_ki1 ?_
                  refine lv_isub hx hb dX6_does_159 ?_
                  obtain ⟨S17, eS17, h⟩ := jx_nx_some h
                  refine jm_put hx hb hts hown hK hP hD hS eS17 jm_f21 (by decide) jm_n21 jm_d21 jm_p21 dX6_does_160 (fun H locs hP hD hS => ?_)
                  refine lv_aload_n hx hb dX6_does_163 rfl (lv_at hl 1 rfl) ?_
                  refine jm_get hx hb hts hown hK hP jm_f18 (by decide) jm_g18 dX6_does_164 ?_
                  refine lv_aload_n hx hb dX6_does_167 rfl (lv_at hl 1 rfl) ?_
                  refine jm_get hx hb hts hown hK hP jm_f21 (by decide) jm_g21 dX6_does_168 ?_
                  obtain ⟨j18, ej18, bj18, h⟩ := jx_ga_some h
                  refine jm_iald hx hb hK hP jm_a18 ej18 bj18 dX6_does_171 ?_
                  exact jm_iret hx hb hr hlk hK hZ hP hD hS h dX6_does_172
                · rw [if_neg sw12_7] at h
                  by_cases sw12_8 : q3.1 = nI 8
                  · rw [if_pos sw12_8] at h
                    refine lv_tableIn (tgt := 173) (off := 161) hx hb dX6_does_12 (by rw [sw12_8]; decide) (by rw [sw12_8]; decide) (by rw [sw12_8]; decide) rfl ?_
                    refine lv_aload_n hx hb dX6_does_173 rfl (lv_at hl 1 rfl) ?_
                    refine jm_get hx hb hts hown hK hP jm_f23 (by decide) jm_g23 dX6_does_174 ?_
                    refine lv_aload_n hx hb dX6_does_177 rfl (lv_at hl 1 rfl) ?_
                    refine jm_get hx hb hts hown hK hP jm_f25 (by decide) jm_g25 dX6_does_178 ?_
                    refine lv_aload_n hx hb dX6_does_181 rfl (lv_at hl 1 rfl) ?_
                    refine lv_aload_n hx hb dX6_does_182 rfl (lv_at hl 1 rfl) ?_
                    refine lv_iload_n hx hb dX6_does_183 rfl (lv_at hl 2 rfl) ?_
                    refine lv_bipush hx hb dX6_does_184 jx_kb6 ?_
                    obtain ⟨q19, eq19, h⟩ := jx_bi_some h
                    refine jm_callI hx hb hml hown hts hlv hK hZ (jm_of_met eq19) jm_of_g jm_of_d (As := [.int x1, .int (nI 6)]) (Nat.le_of_ble_eq_true rfl) (Nat.le_of_ble_eq_true rfl) hP hD hS hl.1 rfl rfl (lv_room (Nat.le_of_ble_eq_true rfl)) dX6_does_186 (fun H locs hP hD hS => ?_)
                    obtain ⟨q20, eq20, h⟩ := jx_bi_some h
                    refine jm_callI hx hb hml hown hts hlv hK hZ (jm_valueOf_met eq20) jm_valueOf_g jm_valueOf_d (As := [.int q19.1]) (Nat.le_of_ble_eq_true rfl) (Nat.le_of_ble_eq_true rfl) hP hD hS hl.1 rfl rfl (lv_room (Nat.le_of_ble_eq_true rfl)) dX6_does_189 (fun H locs hP hD hS => ?_)
                    obtain ⟨j21, ej21, bj21, h⟩ := jx_ga_some h
                    obtain ⟨S22, eS22, h⟩ := jx_nx_some h
                    refine jm_iast hx hb hK hP hD hS jm_a23 (fun f => jm_u23 f) ej21 bj21 eS22 dX6_does_192 (fun H locs hP hD hS => ?_)
                    refine lv_aload_n hx hb dX6_does_193 rfl (lv_at hl 1 rfl) ?_
                    refine lv_dup hx hb dX6_does_194 rfl ?_
                    refine jm_get hx hb hts hown hK hP jm_f25 (by decide) jm_g25 dX6_does_195 ?_
                    refine lv_iconst hx hb dX6_does_198 jx_ki1 ?_
                    refine lv_iadd hx hb dX6_does_199 ?_
                    obtain ⟨S23, eS23, h⟩ := jx_nx_some h
                    refine jm_put hx hb hts hown hK hP hD hS eS23 jm_f25 (by decide) jm_n25 jm_d25 jm_p25 dX6_does_200 (fun H locs hP hD hS => ?_)
                    refine lv_iload_n hx hb dX6_does_203 rfl (lv_at hl 2 rfl) ?_
                    refine lv_iconst hx hb dX6_does_204 jx_ki1 ?_
                    refine lv_iadd hx hb dX6_does_205 ?_
                    exact jm_iret hx hb hr hlk hK hZ hP hD hS h dX6_does_206
                  · rw [if_neg sw12_8] at h
                    refine lv_tableOut (tgt := 207) hx hb dX6_does_12 (jx_sw9 sw12_0 sw12_1 sw12_2 sw12_3 sw12_4 sw12_5 sw12_6 sw12_7 sw12_8) rfl ?_
                    refine lv_iload_n hx hb dX6_does_207 rfl (lv_at hl 2 rfl) ?_
                    exact jm_iret hx hb hr hlk hK hZ hP hD hS h dX6_does_208
theorem jm_does_met {l : Launch} {D : va_G} {ck : Nat → ClassId} {ad sa : Nat → Nat} {A : Nat → Prop} {F : Nat} {x1 : Int32} {S : jm_S} {out : Int32 × jm_S} (h : jm_does F x1 S = some out) : jm_Mi l D ck ad sa A yX6_does cX6_does 3 (some .int) 2 [.int x1] S out :=
  jm_Mi_of ⟨by decide, rfl, Nat.le_of_ble_eq_true rfl⟩ (fun hX => jm_does_ok hX F x1 S h)
theorem jm_landingOf_d : yX6_landingOf.cls = RX6 ∧ yX6_landingOf.cls ≠ "java/lang/invoke/MethodHandle" ∧ yX6_landingOf.cls ≠ "java/lang/invoke/VarHandle" ∧ (parseMethodDescriptor yX6_landingOf.desc).map (fun d => d.parameters.length) = some 1 := by decide +kernel
theorem jm_landingOf_g : GoodIn lw_all (wsV RX6 292 RX6 yX6_landingOf (ws_ yX6_landingOf cX6_landingOf 2 (some .int))) := lw_V q1944 q1946 qs76 q110 q1947
theorem jm_landingOf_ok {out : Int32 × jm_S} (hX : jm_Ok p R s m args meth c A D ck ad sa cX6_landingOf 2 (some .int) 2) (F : Nat) (x1 : Int32) (S : jm_S) (h : jm_landingOf F x1 S = some out) : jm_J p l e R s m args below meth c A D ck ad 2 (jm_Qi below args s A D ck ad sa out) 0 [(0, .ref (ad 0)), (1, .int x1)] [] S := by
  intro H locs ls hP hD hS hl
  have hX0 := hX
  obtain ⟨hx, hb, hml, hown, hts, hlk, hr, hlv, hK, hZ⟩ := hX0
  unfold jm_landingOf at h
  refine lv_aload_n hx hb dX6_landingOf_0 rfl (lv_at hl 0 rfl) ?_
  refine lv_iload_n hx hb dX6_landingOf_1 rfl (lv_at hl 1 rfl) ?_
  obtain ⟨q1, eq1, h⟩ := jx_bi_some h
  refine jm_callI hx hb hml hown hts hlv hK hZ (jm_wordOf_met eq1) jm_wordOf_g jm_wordOf_d (As := [.int x1]) (Nat.le_of_ble_eq_true rfl) (Nat.le_of_ble_eq_true rfl) hP hD hS hl.1 rfl rfl (lv_room (Nat.le_of_ble_eq_true rfl)) dX6_landingOf_2 (fun H locs hP hD hS => ?_)
  refine lv_bipush hx hb dX6_landingOf_5 jx_kb7 ?_
  refine lv_icmp_ne (tgt := 24) hx hb dX6_landingOf_7 rfl (fun c2 => ?_) (fun c2 => ?_)
  · rw [if_neg c2] at h
    refine lv_aload_n hx hb dX6_landingOf_24 rfl (lv_at hl 0 rfl) ?_
    refine jm_get hx hb hts hown hK hP jm_f16 (by decide) jm_g16 dX6_landingOf_25 ?_
    refine lv_aload_n hx hb dX6_landingOf_28 rfl (lv_at hl 0 rfl) ?_
    refine lv_iload_n hx hb dX6_landingOf_29 rfl (lv_at hl 1 rfl) ?_
    refine lv_iconst hx hb dX6_landingOf_30 jx_ki5 ?_
    obtain ⟨q3, eq3, h⟩ := jx_bi_some h
    refine jm_callI hx hb hml hown hts hlv hK hZ (jm_of_met eq3) jm_of_g jm_of_d (As := [.int x1, .int (nI 5)]) (Nat.le_of_ble_eq_true rfl) (Nat.le_of_ble_eq_true rfl) hP hD hS hl.1 rfl rfl (lv_room (Nat.le_of_ble_eq_true rfl)) dX6_landingOf_31 (fun H locs hP hD hS => ?_)
    obtain ⟨j4, ej4, bj4, h⟩ := jx_ga_some h
    refine jm_iald hx hb hK hP jm_a16 ej4 bj4 dX6_landingOf_34 ?_
    exact jm_iret hx hb hr hlk hK hZ hP hD hS h dX6_landingOf_35
  · rw [if_pos c2] at h
    refine lv_aload_n hx hb dX6_landingOf_10 rfl (lv_at hl 0 rfl) ?_
    refine jm_get hx hb hts hown hK hP jm_f18 (by decide) jm_g18 dX6_landingOf_11 ?_
    refine lv_aload_n hx hb dX6_landingOf_14 rfl (lv_at hl 0 rfl) ?_
    refine jm_get hx hb hts hown hK hP jm_f21 (by decide) jm_g21 dX6_landingOf_15 ?_
    refine lv_iconst hx hb dX6_landingOf_18 jx_ki1 ?_
    refine lv_isub hx hb dX6_landingOf_19 ?_
    obtain ⟨j5, ej5, bj5, h⟩ := jx_ga_some h
    refine jm_iald hx hb hK hP jm_a18 ej5 bj5 dX6_landingOf_20 ?_
    refine lv_goto (tgt := 35) hx hb dX6_landingOf_21 rfl ?_
    exact jm_iret hx hb hr hlk hK hZ hP hD hS h dX6_landingOf_35
theorem jm_landingOf_met {l : Launch} {D : va_G} {ck : Nat → ClassId} {ad sa : Nat → Nat} {A : Nat → Prop} {F : Nat} {x1 : Int32} {S : jm_S} {out : Int32 × jm_S} (h : jm_landingOf F x1 S = some out) : jm_Mi l D ck ad sa A yX6_landingOf cX6_landingOf 2 (some .int) 2 [.int x1] S out :=
  jm_Mi_of ⟨by decide, rfl, Nat.le_of_ble_eq_true rfl⟩ (fun hX => jm_landingOf_ok hX F x1 S h)
theorem jm_isGuarded_d : yX6_isGuarded.cls = RX6 ∧ yX6_isGuarded.cls ≠ "java/lang/invoke/MethodHandle" ∧ yX6_isGuarded.cls ≠ "java/lang/invoke/VarHandle" ∧ (parseMethodDescriptor yX6_isGuarded.desc).map (fun d => d.parameters.length) = some 1 := by decide +kernel
theorem jm_isGuarded_g : GoodIn lw_all (wsV RX6 346 RX6 yX6_isGuarded (ws_ yX6_isGuarded cX6_isGuarded 4 (some .boolean))) := lw_V q1940 q1942 qs75 q110 q1943
theorem jm_isGuarded_b55_ok {out : Int32 × jm_S} (hX : jm_Ok p R s m args meth c A D ck ad sa cX6_isGuarded 4 (some .boolean) 3) (F : Nat) (x1 : Int32) (x2 : Int32) (S : jm_S) (h : jm_isGuarded_b55 F x1 x2 S = some out) : jm_J p l e R s m args below meth c A D ck ad 4 (jm_Qi below args s A D ck ad sa out) 55 [(0, .ref (ad 0)), (1, .int x1), (2, .int x2)] [] S := by
  intro H locs ls hP hD hS hl
  have hX0 := hX
  obtain ⟨hx, hb, hml, hown, hts, hlk, hr, hlv, hK, hZ⟩ := hX0
  unfold jm_isGuarded_b55 at h
  refine lv_iload_n hx hb dX6_isGuarded_55 rfl (lv_at hl 2 rfl) ?_
  refine lv_iconst hx hb dX6_isGuarded_56 jx_ki0 ?_
  refine lv_bipush hx hb dX6_isGuarded_57 jx_kb39 ?_
  obtain ⟨q1, eq1, h⟩ := jx_bi_some h
  refine jx_callSi hx hb hml hown hts (jm_in_met eq1) jm_in_g_X6 jm_in_d (As := [.int x2, .int (nI 0), .int (nI 39)]) (by rw [hlv]; decide) hl.1 rfl rfl (lv_room (Nat.le_of_ble_eq_true rfl)) dX6_isGuarded_59 (by rw [hlv]; exact ⟨Nat.zero_le _, Nat.zero_le _⟩) ?_
  refine lv_if_eq (tgt := 78) hx hb dX6_isGuarded_62 rfl (fun c2 => ?_) (fun c2 => ?_)
  · rw [if_pos c2] at h
    refine lv_iconst hx hb dX6_isGuarded_78 jx_ki1 ?_
    refine lv_goto (tgt := 83) hx hb dX6_isGuarded_79 rfl ?_
    exact jm_zret hx hb hr hlk hK hZ hP hD hS jx_nz1 h dX6_isGuarded_83
  · rw [if_neg c2] at h
    refine lv_aload_n hx hb dX6_isGuarded_65 rfl (lv_at hl 0 rfl) ?_
    refine jm_get hx hb hts hown hK hP jm_f33 (by decide) jm_g33 dX6_isGuarded_66 ?_
    refine lv_iload_n hx hb dX6_isGuarded_69 rfl (lv_at hl 1 rfl) ?_
    obtain ⟨j3, ej3, bj3, h⟩ := jx_ga_some h
    refine jm_lald hx hb hK hP jm_a33 ej3 bj3 dX6_isGuarded_70 ?_
    refine lv_iload_n hx hb dX6_isGuarded_71 rfl (lv_at hl 2 rfl) ?_
    obtain ⟨q4, eq4, h⟩ := jx_bi_some h
    refine jx_callSi hx hb hml hown hts (jm_has_met eq4) jm_has_g_X6 jm_has_d (As := [.long (S.2.2 33 j3), .int x2]) (by rw [hlv]; decide) hl.1 rfl rfl (lv_room (Nat.le_of_ble_eq_true rfl)) dX6_isGuarded_72 (by rw [hlv]; exact ⟨Nat.zero_le _, Nat.zero_le _⟩) ?_
    refine lv_if_ne (tgt := 82) hx hb dX6_isGuarded_75 rfl (fun c5 => ?_) (fun c5 => ?_)
    · rw [if_neg c5] at h
      refine lv_iconst hx hb dX6_isGuarded_82 jx_ki0 ?_
      exact jm_zret hx hb hr hlk hK hZ hP hD hS jx_nz0 h dX6_isGuarded_83
    · rw [if_pos c5] at h
      refine lv_iconst hx hb dX6_isGuarded_78 jx_ki1 ?_
      refine lv_goto (tgt := 83) hx hb dX6_isGuarded_79 rfl ?_
      exact jm_zret hx hb hr hlk hK hZ hP hD hS jx_nz1 h dX6_isGuarded_83
theorem jm_isGuarded_ok {out : Int32 × jm_S} (hX : jm_Ok p R s m args meth c A D ck ad sa cX6_isGuarded 4 (some .boolean) 3) (F : Nat) (x1 : Int32) (S : jm_S) (h : jm_isGuarded F x1 S = some out) : jm_J p l e R s m args below meth c A D ck ad 4 (jm_Qi below args s A D ck ad sa out) 0 [(0, .ref (ad 0)), (1, .int x1)] [] S := by
  intro H locs ls hP hD hS hl
  have hX0 := hX
  obtain ⟨hx, hb, hml, hown, hts, hlk, hr, hlv, hK, hZ⟩ := hX0
  unfold jm_isGuarded at h
  refine lv_aload_n hx hb dX6_isGuarded_0 rfl (lv_at hl 0 rfl) ?_
  refine lv_iload_n hx hb dX6_isGuarded_1 rfl (lv_at hl 1 rfl) ?_
  obtain ⟨q1, eq1, h⟩ := jx_bi_some h
  refine jm_callI hx hb hml hown hts hlv hK hZ (jm_landingOf_met eq1) jm_landingOf_g jm_landingOf_d (As := [.int x1]) (Nat.le_of_ble_eq_true rfl) (Nat.le_of_ble_eq_true rfl) hP hD hS hl.1 rfl rfl (lv_room (Nat.le_of_ble_eq_true rfl)) dX6_isGuarded_2 (fun H locs hP hD hS => ?_)
  obtain ⟨y2, ey2, h⟩ := jx_nx_some h
  refine jx_topi ey2 ?_
  refine lv_istore_n (lv' := [(2, .int y2), (0, .ref (ad 0)), (1, .int x1)]) hx hb dX6_isGuarded_5 rfl hl (Nat.le_of_ble_eq_true rfl) rfl (fun ls hl => ?_)
  refine lv_aload_n hx hb dX6_isGuarded_6 rfl (lv_at hl 1 rfl) ?_
  refine lv_iload_n hx hb dX6_isGuarded_7 rfl (lv_at hl 2 rfl) ?_
  refine lv_iconst hx hb dX6_isGuarded_8 jx_ki2 ?_
  obtain ⟨q3, eq3, h⟩ := jx_bi_some h
  refine jm_callI hx hb hml hown hts hlv hK hZ (jm_of_met eq3) jm_of_g jm_of_d (As := [.int x1, .int (nI 2)]) (Nat.le_of_ble_eq_true rfl) (Nat.le_of_ble_eq_true rfl) hP hD hS hl.1 rfl rfl (lv_room (Nat.le_of_ble_eq_true rfl)) dX6_isGuarded_9 (fun H locs hP hD hS => ?_)
  obtain ⟨y4, ey4, h⟩ := jx_nx_some h
  refine jx_topi ey4 ?_
  refine lv_istore_n (lv' := [(3, .int y4), (2, .int y2), (0, .ref (ad 0)), (1, .int x1)]) hx hb dX6_isGuarded_12 rfl hl (Nat.le_of_ble_eq_true rfl) rfl (fun ls hl => ?_)
  refine lv_iload_n hx hb dX6_isGuarded_13 rfl (lv_at hl 0 rfl) ?_
  refine lv_if_ne (tgt := 19) hx hb dX6_isGuarded_14 rfl (fun c5 => ?_) (fun c5 => ?_)
  · rw [if_neg c5] at h
    refine lv_iload_n hx hb dX6_isGuarded_19 rfl (lv_at hl 0 rfl) ?_
    refine lv_iconst hx hb dX6_isGuarded_20 jx_ki3 ?_
    refine lv_icmp_ne (tgt := 55) hx hb dX6_isGuarded_21 rfl (fun c6 => ?_) (fun c6 => ?_)
    · rw [if_neg c6] at h
      exact jm_isGuarded_b55_ok hX F _ _ _ h _ _ _ hP hD hS (lv_sub hl [2, 3, 1] rfl)
    · rw [if_pos c6] at h
      refine lv_aload_n hx hb dX6_isGuarded_24 rfl (lv_at hl 2 rfl) ?_
      refine lv_iload_n hx hb dX6_isGuarded_25 rfl (lv_at hl 3 rfl) ?_
      obtain ⟨q7, eq7, h⟩ := jx_bi_some h
      refine jm_callI hx hb hml hown hts hlv hK hZ (jm_wordOf_met eq7) jm_wordOf_g jm_wordOf_d (As := [.int x1]) (Nat.le_of_ble_eq_true rfl) (Nat.le_of_ble_eq_true rfl) hP hD hS hl.1 rfl rfl (lv_room (Nat.le_of_ble_eq_true rfl)) dX6_isGuarded_26 (fun H locs hP hD hS => ?_)
      refine lv_bipush hx hb dX6_isGuarded_29 jx_kb7 ?_
      refine lv_icmp_ne (tgt := 55) hx hb dX6_isGuarded_31 rfl (fun c8 => ?_) (fun c8 => ?_)
      · rw [if_neg c8] at h
        exact jm_isGuarded_b55_ok hX F _ _ _ h _ _ _ hP hD hS (lv_sub hl [2, 3, 1] rfl)
      · rw [if_pos c8] at h
        refine lv_iload_n hx hb dX6_isGuarded_34 rfl (lv_at hl 1 rfl) ?_
        refine lv_aload_n hx hb dX6_isGuarded_35 rfl (lv_at hl 2 rfl) ?_
        refine jm_get hx hb hts hown hK hP jm_f20 (by decide) jm_g20 dX6_isGuarded_36 ?_
        refine lv_aload_n hx hb dX6_isGuarded_39 rfl (lv_at hl 2 rfl) ?_
        refine jm_get hx hb hts hown hK hP jm_f21 (by decide) jm_g21 dX6_isGuarded_40 ?_
        refine lv_iconst hx hb dX6_isGuarded_43 jx_ki1 ?_
        refine lv_isub hx hb dX6_isGuarded_44 ?_
        obtain ⟨j9, ej9, bj9, h⟩ := jx_ga_some h
        refine jm_iald hx hb hK hP jm_a20 ej9 bj9 dX6_isGuarded_45 ?_
        refine lv_icmp_eq (tgt := 53) hx hb dX6_isGuarded_46 rfl (fun c10 => ?_) (fun c10 => ?_)
        · rw [if_pos c10] at h
          refine lv_iconst hx hb dX6_isGuarded_53 jx_ki0 ?_
          exact jm_zret hx hb hr hlk hK hZ hP hD hS jx_nz0 h dX6_isGuarded_54
        · rw [if_neg c10] at h
          refine lv_iconst hx hb dX6_isGuarded_49 jx_ki1 ?_
          refine lv_goto (tgt := 54) hx hb dX6_isGuarded_50 rfl ?_
          exact jm_zret hx hb hr hlk hK hZ hP hD hS jx_nz1 h dX6_isGuarded_54
  · rw [if_pos c5] at h
    refine lv_iconst hx hb dX6_isGuarded_17 jx_ki0 ?_
    exact jm_zret hx hb hr hlk hK hZ hP hD hS jx_nz0 h dX6_isGuarded_18
theorem jm_isGuarded_met {l : Launch} {D : va_G} {ck : Nat → ClassId} {ad sa : Nat → Nat} {A : Nat → Prop} {F : Nat} {x1 : Int32} {S : jm_S} {out : Int32 × jm_S} (h : jm_isGuarded F x1 S = some out) : jm_Mi l D ck ad sa A yX6_isGuarded cX6_isGuarded 4 (some .boolean) 3 [.int x1] S out :=
  jm_Mi_of ⟨by decide, rfl, Nat.le_of_ble_eq_true rfl⟩ (fun hX => jm_isGuarded_ok hX F x1 S h)
theorem jm_isTrapped_d : yX6_isTrapped.cls = RX6 ∧ yX6_isTrapped.cls ≠ "java/lang/invoke/MethodHandle" ∧ yX6_isTrapped.cls ≠ "java/lang/invoke/VarHandle" ∧ (parseMethodDescriptor yX6_isTrapped.desc).map (fun d => d.parameters.length) = some 1 := by decide +kernel
theorem jm_isTrapped_g : GoodIn lw_all (wsV RX6 343 RX6 yX6_isTrapped (ws_ yX6_isTrapped cX6_isTrapped 3 (some .boolean))) := lw_V q1926 q1928 qs72 q110 q1929
theorem jm_isTrapped_b67_ok {out : Int32 × jm_S} (hX : jm_Ok p R s m args meth c A D ck ad sa cX6_isTrapped 3 (some .boolean) 3) (F : Nat) (x2 : Int32) (S : jm_S) (h : jm_isTrapped_b67 F x2 S = some out) : jm_J p l e R s m args below meth c A D ck ad 3 (jm_Qi below args s A D ck ad sa out) 67 [(0, .ref (ad 0)), (2, .int x2)] [] S := by
  intro H locs ls hP hD hS hl
  have hX0 := hX
  obtain ⟨hx, hb, hml, hown, hts, hlk, hr, hlv, hK, hZ⟩ := hX0
  unfold jm_isTrapped_b67 at h
  refine lv_iload_n hx hb dX6_isTrapped_67 rfl (lv_at hl 1 rfl) ?_
  refine lv_bipush hx hb dX6_isTrapped_68 jx_kb7 ?_
  refine lv_icmp_ne (tgt := 84) hx hb dX6_isTrapped_70 rfl (fun c1 => ?_) (fun c1 => ?_)
  · rw [if_neg c1] at h
    refine lv_iconst hx hb dX6_isTrapped_84 jx_ki0 ?_
    exact jm_zret hx hb hr hlk hK hZ hP hD hS jx_nz0 h dX6_isTrapped_85
  · rw [if_pos c1] at h
    refine lv_aload_n hx hb dX6_isTrapped_73 rfl (lv_at hl 0 rfl) ?_
    refine jm_get hx hb hts hown hK hP jm_f21 (by decide) jm_g21 dX6_isTrapped_74 ?_
    refine lv_if_ne (tgt := 84) hx hb dX6_isTrapped_77 rfl (fun c2 => ?_) (fun c2 => ?_)
    · rw [if_neg c2] at h
      refine lv_iconst hx hb dX6_isTrapped_84 jx_ki0 ?_
      exact jm_zret hx hb hr hlk hK hZ hP hD hS jx_nz0 h dX6_isTrapped_85
    · rw [if_pos c2] at h
      refine lv_iconst hx hb dX6_isTrapped_80 jx_ki1 ?_
      refine lv_goto (tgt := 85) hx hb dX6_isTrapped_81 rfl ?_
      exact jm_zret hx hb hr hlk hK hZ hP hD hS jx_nz1 h dX6_isTrapped_85
theorem jm_isTrapped_ok {out : Int32 × jm_S} (hX : jm_Ok p R s m args meth c A D ck ad sa cX6_isTrapped 3 (some .boolean) 3) (F : Nat) (x1 : Int32) (S : jm_S) (h : jm_isTrapped F x1 S = some out) : jm_J p l e R s m args below meth c A D ck ad 3 (jm_Qi below args s A D ck ad sa out) 0 [(0, .ref (ad 0)), (1, .int x1)] [] S := by
  intro H locs ls hP hD hS hl
  have hX0 := hX
  obtain ⟨hx, hb, hml, hown, hts, hlk, hr, hlv, hK, hZ⟩ := hX0
  unfold jm_isTrapped at h
  refine lv_aload_n hx hb dX6_isTrapped_0 rfl (lv_at hl 0 rfl) ?_
  refine lv_iload_n hx hb dX6_isTrapped_1 rfl (lv_at hl 1 rfl) ?_
  obtain ⟨q1, eq1, h⟩ := jx_bi_some h
  refine jm_callI hx hb hml hown hts hlv hK hZ (jm_noOrder_met eq1) jm_noOrder_g jm_noOrder_d (As := [.int x1]) (Nat.le_of_ble_eq_true rfl) (Nat.le_of_ble_eq_true rfl) hP hD hS hl.1 rfl rfl (lv_room (Nat.le_of_ble_eq_true rfl)) dX6_isTrapped_2 (fun H locs hP hD hS => ?_)
  refine lv_if_eq (tgt := 10) hx hb dX6_isTrapped_5 rfl (fun c2 => ?_) (fun c2 => ?_)
  · rw [if_pos c2] at h
    refine lv_aload_n hx hb dX6_isTrapped_10 rfl (lv_at hl 0 rfl) ?_
    refine lv_iload_n hx hb dX6_isTrapped_11 rfl (lv_at hl 1 rfl) ?_
    obtain ⟨q3, eq3, h⟩ := jx_bi_some h
    refine jm_callI hx hb hml hown hts hlv hK hZ (jm_wordOf_met eq3) jm_wordOf_g jm_wordOf_d (As := [.int x1]) (Nat.le_of_ble_eq_true rfl) (Nat.le_of_ble_eq_true rfl) hP hD hS hl.1 rfl rfl (lv_room (Nat.le_of_ble_eq_true rfl)) dX6_isTrapped_12 (fun H locs hP hD hS => ?_)
    obtain ⟨y4, ey4, h⟩ := jx_nx_some h
    refine jx_topi ey4 ?_
    refine lv_istore_n (lv' := [(2, .int y4), (0, .ref (ad 0)), (1, .int x1)]) hx hb dX6_isTrapped_15 rfl hl (Nat.le_of_ble_eq_true rfl) rfl (fun ls hl => ?_)
    refine lv_iload_n hx hb dX6_isTrapped_16 rfl (lv_at hl 0 rfl) ?_
    refine lv_if_ne (tgt := 50) hx hb dX6_isTrapped_17 rfl (fun c5 => ?_) (fun c5 => ?_)
    · rw [if_neg c5] at h
      refine lv_aload_n hx hb dX6_isTrapped_50 rfl (lv_at hl 1 rfl) ?_
      refine lv_iload_n hx hb dX6_isTrapped_51 rfl (lv_at hl 2 rfl) ?_
      obtain ⟨q6, eq6, h⟩ := jx_bi_some h
      refine jm_callI hx hb hml hown hts hlv hK hZ (jm_isCall_met eq6) jm_isCall_g jm_isCall_d (As := [.int x1]) (Nat.le_of_ble_eq_true rfl) (Nat.le_of_ble_eq_true rfl) hP hD hS hl.1 rfl rfl (lv_room (Nat.le_of_ble_eq_true rfl)) dX6_isTrapped_52 (fun H locs hP hD hS => ?_)
      refine lv_if_eq (tgt := 67) hx hb dX6_isTrapped_55 rfl (fun c7 => ?_) (fun c7 => ?_)
      · rw [if_pos c7] at h
        exact jm_isTrapped_b67_ok hX F _ _ h _ _ _ hP hD hS (lv_sub hl [1, 0] rfl)
      · rw [if_neg c7] at h
        refine lv_aload_n hx hb dX6_isTrapped_58 rfl (lv_at hl 1 rfl) ?_
        refine jm_get hx hb hts hown hK hP jm_f21 (by decide) jm_g21 dX6_isTrapped_59 ?_
        refine lv_bipush hx hb dX6_isTrapped_62 jx_kb8 ?_
        refine lv_icmp_eq (tgt := 80) hx hb dX6_isTrapped_64 rfl (fun c8 => ?_) (fun c8 => ?_)
        · rw [if_pos c8] at h
          refine lv_iconst hx hb dX6_isTrapped_80 jx_ki1 ?_
          refine lv_goto (tgt := 85) hx hb dX6_isTrapped_81 rfl ?_
          exact jm_zret hx hb hr hlk hK hZ hP hD hS jx_nz1 h dX6_isTrapped_85
        · rw [if_neg c8] at h
          exact jm_isTrapped_b67_ok hX F _ _ h _ _ _ hP hD hS (lv_sub hl [1, 0] rfl)
    · rw [if_pos c5] at h
      refine lv_aload_n hx hb dX6_isTrapped_20 rfl (lv_at hl 1 rfl) ?_
      refine lv_iload_n hx hb dX6_isTrapped_21 rfl (lv_at hl 2 rfl) ?_
      obtain ⟨q9, eq9, h⟩ := jx_bi_some h
      refine jm_callL hx hb hml hown hts hlv hK hZ (jm_sumOf_met eq9) jm_sumOf_g jm_sumOf_d (As := [.int x1]) (Nat.le_of_ble_eq_true rfl) (Nat.le_of_ble_eq_true rfl) hP hD hS hl.1 rfl rfl (lv_room (Nat.le_of_ble_eq_true rfl)) dX6_isTrapped_22 (fun H locs hP hD hS => ?_)
      refine lv_ldc2 hx hb hown (hts _ q1938) dX6_isTrapped_25 ?_
      refine W.lcmp hx hb dX6_isTrapped_28 ?_
      refine lv_if_gt (tgt := 44) hx hb dX6_isTrapped_29 rfl (fun c10 => ?_) (fun c10 => ?_)
      · rw [if_pos c10] at h
        refine lv_iconst hx hb dX6_isTrapped_44 jx_ki1 ?_
        refine lv_goto (tgt := 49) hx hb dX6_isTrapped_45 rfl ?_
        exact jm_zret hx hb hr hlk hK hZ hP hD hS jx_nz1 h dX6_isTrapped_49
      · rw [if_neg c10] at h
        refine lv_aload_n hx hb dX6_isTrapped_32 rfl (lv_at hl 1 rfl) ?_
        refine lv_iload_n hx hb dX6_isTrapped_33 rfl (lv_at hl 2 rfl) ?_
        obtain ⟨q11, eq11, h⟩ := jx_bi_some h
        refine jm_callL hx hb hml hown hts hlv hK hZ (jm_sumOf_met eq11) jm_sumOf_g jm_sumOf_d (As := [.int x1]) (Nat.le_of_ble_eq_true rfl) (Nat.le_of_ble_eq_true rfl) hP hD hS hl.1 rfl rfl (lv_room (Nat.le_of_ble_eq_true rfl)) dX6_isTrapped_34 (fun H locs hP hD hS => ?_)
        refine lv_ldc2 hx hb hown (hts _ q1939) dX6_isTrapped_37 ?_
        refine W.lcmp hx hb dX6_isTrapped_40 ?_
        refine lv_if_ge (tgt := 48) hx hb dX6_isTrapped_41 rfl (fun c12 => ?_) (fun c12 => ?_)
        · rw [if_pos c12] at h
          refine lv_iconst hx hb dX6_isTrapped_48 jx_ki0 ?_
          exact jm_zret hx hb hr hlk hK hZ hP hD hS jx_nz0 h dX6_isTrapped_49
        · rw [if_neg c12] at h
          refine lv_iconst hx hb dX6_isTrapped_44 jx_ki1 ?_
          refine lv_goto (tgt := 49) hx hb dX6_isTrapped_45 rfl ?_
          exact jm_zret hx hb hr hlk hK hZ hP hD hS jx_nz1 h dX6_isTrapped_49
  · rw [if_neg c2] at h
    refine lv_iconst hx hb dX6_isTrapped_8 jx_ki1 ?_
    exact jm_zret hx hb hr hlk hK hZ hP hD hS jx_nz1 h dX6_isTrapped_9
theorem jm_isTrapped_met {l : Launch} {D : va_G} {ck : Nat → ClassId} {ad sa : Nat → Nat} {A : Nat → Prop} {F : Nat} {x1 : Int32} {S : jm_S} {out : Int32 × jm_S} (h : jm_isTrapped F x1 S = some out) : jm_Mi l D ck ad sa A yX6_isTrapped cX6_isTrapped 3 (some .boolean) 3 [.int x1] S out :=
  jm_Mi_of ⟨by decide, rfl, Nat.le_of_ble_eq_true rfl⟩ (fun hX => jm_isTrapped_ok hX F x1 S h)
theorem jm_runs_d : yX6_runs.cls = RX6 ∧ yX6_runs.cls ≠ "java/lang/invoke/MethodHandle" ∧ yX6_runs.cls ≠ "java/lang/invoke/VarHandle" ∧ (parseMethodDescriptor yX6_runs.desc).map (fun d => d.parameters.length) = some 2 := by decide +kernel
theorem jm_runs_g : GoodIn lw_all (wsV RX6 352 RX6 yX6_runs (ws_ yX6_runs cX6_runs 5 none)) := lw_V q1914 q1916 qs69 q110 q1917
theorem jm_runs_b42_ok {out : jm_S} (hX : jm_Ok p R s m args meth c A D ck ad sa cX6_runs 5 none 9) (F : Nat) {r6 : Int32 × Int32 × Int32 × jm_S → Option (jm_S)} (hr6 : ∀ a, r6 a = some out → jm_J p l e R s m args below meth c A D ck ad 5 (jm_Qv below args s A D ck ad sa out) 6 [(0, .ref (ad 0)), (1, .int a.1), (2, .int a.2.1), (3, .int a.2.2.1)] [] a.2.2.2) (x1 : Int32) (x2 : Int32) (x3 : Int32) (k0 : Int64) (k1 : Int32) (S : jm_S) (h : jm_runs_b42 F r6 x1 x2 x3 k0 k1 S = some out) : jm_J p l e R s m args below meth c A D ck ad 5 (jm_Qv below args s A D ck ad sa out) 42 [(0, .ref (ad 0)), (1, .int x1), (2, .int x2), (3, .int x3)] [.long k0, .int k1, .ref (ad 33)] S := by
  intro H locs ls hP hD hS hl
  have hX0 := hX
  obtain ⟨hx, hb, hml, hown, hts, hlk, hr, hlv, hK, hZ⟩ := hX0
  unfold jm_runs_b42 at h
  obtain ⟨j1, ej1, bj1, h⟩ := jx_ga_some h
  obtain ⟨S2, eS2, h⟩ := jx_nx_some h
  refine jm_last hx hb hK hP hD hS jm_a33 (fun f => jm_u33 f) ej1 bj1 eS2 dX6_runs_42 (fun H locs hP hD hS => ?_)
  obtain ⟨y3, ey3, h⟩ := jx_nx_some h
  refine lv_iinc (v := y3) (lv' := [(3, .int y3), (0, .ref (ad 0)), (1, .int x1), (2, .int x2)]) hx hb dX6_runs_43 hl (k := 3) rfl (jx_inc jx_ki1 ey3) (Nat.le_of_ble_eq_true rfl) rfl (fun ls hl => ?_)
  refine lv_goto (tgt := 6) hx hb dX6_runs_46 rfl ?_
  exact hr6 _ h _ _ _ hP hD hS (lv_sub hl [1, 2, 3, 0] rfl)
theorem jm_runs_b242_ok {out : jm_S} (hX : jm_Ok p R s m args meth c A D ck ad sa cX6_runs 5 none 9) (F : Nat) {r53 : Int32 × Int32 × jm_S → Option (jm_S)} (hr53 : ∀ a, r53 a = some out → jm_J p l e R s m args below meth c A D ck ad 5 (jm_Qv below args s A D ck ad sa out) 53 [(0, .ref (ad 0)), (1, .int a.1), (2, .int a.2.1)] [] a.2.2) (x1 : Int32) (x2 : Int32) (x3 : Int32) (S : jm_S) (h : jm_runs_b242 F r53 x1 x2 x3 S = some out) : jm_J p l e R s m args below meth c A D ck ad 5 (jm_Qv below args s A D ck ad sa out) 242 [(0, .ref (ad 0)), (1, .int x1), (2, .int x2), (3, .int x3)] [] S := by
  intro H locs ls hP hD hS hl
  have hX0 := hX
  obtain ⟨hx, hb, hml, hown, hts, hlk, hr, hlv, hK, hZ⟩ := hX0
  unfold jm_runs_b242 at h
  refine lv_aload_n hx hb dX6_runs_242 rfl (lv_at hl 0 rfl) ?_
  refine jm_get hx hb hts hown hK hP jm_f22 (by decide) jm_g22 dX6_runs_243 ?_
  refine lv_aload_n hx hb dX6_runs_246 rfl (lv_at hl 0 rfl) ?_
  refine jm_get hx hb hts hown hK hP jm_f24 (by decide) jm_g24 dX6_runs_247 ?_
  refine lv_iload_n hx hb dX6_runs_250 rfl (lv_at hl 3 rfl) ?_
  obtain ⟨j1, ej1, bj1, h⟩ := jx_ga_some h
  obtain ⟨S2, eS2, h⟩ := jx_nx_some h
  refine jm_iast hx hb hK hP hD hS jm_a22 (fun f => jm_u22 f) ej1 bj1 eS2 dX6_runs_251 (fun H locs hP hD hS => ?_)
  refine lv_aload_n hx hb dX6_runs_252 rfl (lv_at hl 0 rfl) ?_
  refine lv_dup hx hb dX6_runs_253 rfl ?_
  refine jm_get hx hb hts hown hK hP jm_f24 (by decide) jm_g24 dX6_runs_254 ?_
  refine lv_iconst hx hb dX6_runs_257 jx_ki1 ?_
  refine lv_iadd hx hb dX6_runs_258 ?_
  obtain ⟨S3, eS3, h⟩ := jx_nx_some h
  refine jm_put hx hb hts hown hK hP hD hS eS3 jm_f24 (by decide) jm_n24 jm_d24 jm_p24 dX6_runs_259 (fun H locs hP hD hS => ?_)
  refine lv_aload_n hx hb dX6_runs_262 rfl (lv_at hl 0 rfl) ?_
  refine lv_aload_n hx hb dX6_runs_263 rfl (lv_at hl 0 rfl) ?_
  refine lv_iload_n hx hb dX6_runs_264 rfl (lv_at hl 3 rfl) ?_
  obtain ⟨q4, eq4, h⟩ := jx_bi_some h
  refine jm_callI hx hb hml hown hts hlv hK hZ (jm_does_met eq4) jm_does_g jm_does_d (As := [.int x3]) (Nat.le_of_ble_eq_true rfl) (Nat.le_of_ble_eq_true rfl) hP hD hS hl.1 rfl rfl (lv_room (Nat.le_of_ble_eq_true rfl)) dX6_runs_265 (fun H locs hP hD hS => ?_)
  obtain ⟨S5, eS5, h⟩ := jx_nx_some h
  refine jm_put hx hb hts hown hK hP hD hS eS5 jm_f27 (by decide) jm_n27 jm_d27 jm_p27 dX6_runs_268 (fun H locs hP hD hS => ?_)
  refine lv_aload_n hx hb dX6_runs_271 rfl (lv_at hl 0 rfl) ?_
  refine lv_iload_n hx hb dX6_runs_272 rfl (lv_at hl 3 rfl) ?_
  obtain ⟨q6, eq6, h⟩ := jx_bi_some h
  refine jm_callI hx hb hml hown hts hlv hK hZ (jm_wordOf_met eq6) jm_wordOf_g jm_wordOf_d (As := [.int x3]) (Nat.le_of_ble_eq_true rfl) (Nat.le_of_ble_eq_true rfl) hP hD hS hl.1 rfl rfl (lv_room (Nat.le_of_ble_eq_true rfl)) dX6_runs_273 (fun H locs hP hD hS => ?_)
  refine lv_bipush hx hb dX6_runs_276 jx_kb9 ?_
  refine lv_icmp_ne (tgt := 287) hx hb dX6_runs_278 rfl (fun c7 => ?_) (fun c7 => ?_)
  · rw [if_neg c7] at h
    refine lv_goto (tgt := 53) hx hb dX6_runs_287 rfl ?_
    exact hr53 _ h _ _ _ hP hD hS (lv_sub hl [0, 1, 2] rfl)
  · rw [if_pos c7] at h
    refine lv_aload_n hx hb dX6_runs_281 rfl (lv_at hl 0 rfl) ?_
    refine lv_iconst hx hb dX6_runs_282 jx_ki0 ?_
    obtain ⟨S8, eS8, h⟩ := jx_nx_some h
    refine jm_put hx hb hts hown hK hP hD hS eS8 jm_f26 (by decide) jm_n26 jm_d26 jm_p26 dX6_runs_283 (fun H locs hP hD hS => ?_)
    exact jm_vret hx hb hr hlk hK hZ hP hD hS h dX6_runs_286
theorem jm_runs_b238_ok {out : jm_S} (hX : jm_Ok p R s m args meth c A D ck ad sa cX6_runs 5 none 9) (F : Nat) {r53 : Int32 × Int32 × jm_S → Option (jm_S)} (hr53 : ∀ a, r53 a = some out → jm_J p l e R s m args below meth c A D ck ad 5 (jm_Qv below args s A D ck ad sa out) 53 [(0, .ref (ad 0)), (1, .int a.1), (2, .int a.2.1)] [] a.2.2) (x1 : Int32) (x2 : Int32) (x3 : Int32) (k0 : Int32) (k1 : Int32) (S : jm_S) (h : jm_runs_b238 F r53 x1 x2 x3 k0 k1 S = some out) : jm_J p l e R s m args below meth c A D ck ad 5 (jm_Qv below args s A D ck ad sa out) 238 [(0, .ref (ad 0)), (1, .int x1), (2, .int x2), (3, .int x3)] [.int k0, .int k1, .ref (ad 0)] S := by
  intro H locs ls hP hD hS hl
  have hX0 := hX
  obtain ⟨hx, hb, hml, hown, hts, hlk, hr, hlv, hK, hZ⟩ := hX0
  unfold jm_runs_b238 at h
  refine lv_iadd hx hb dX6_runs_238 ?_
  obtain ⟨S1, eS1, h⟩ := jx_nx_some h
  refine jm_put hx hb hts hown hK hP hD hS eS1 jm_f28 (by decide) jm_n28 jm_d28 jm_p28 dX6_runs_239 (fun H locs hP hD hS => ?_)
  exact jm_runs_b242_ok hX F hr53 _ _ _ _ h _ _ _ hP hD hS hl
theorem jm_runs_b207_ok {out : jm_S} (hX : jm_Ok p R s m args meth c A D ck ad sa cX6_runs 5 none 9) (F : Nat) {r53 : Int32 × Int32 × jm_S → Option (jm_S)} (hr53 : ∀ a, r53 a = some out → jm_J p l e R s m args below meth c A D ck ad 5 (jm_Qv below args s A D ck ad sa out) 53 [(0, .ref (ad 0)), (1, .int a.1), (2, .int a.2.1)] [] a.2.2) (x1 : Int32) (x2 : Int32) (x3 : Int32) (S : jm_S) (h : jm_runs_b207 F r53 x1 x2 x3 S = some out) : jm_J p l e R s m args below meth c A D ck ad 5 (jm_Qv below args s A D ck ad sa out) 207 [(0, .ref (ad 0)), (1, .int x1), (2, .int x2), (3, .int x3)] [] S := by
  intro H locs ls hP hD hS hl
  have hX0 := hX
  obtain ⟨hx, hb, hml, hown, hts, hlk, hr, hlv, hK, hZ⟩ := hX0
  unfold jm_runs_b207 at h
  refine lv_aload_n hx hb dX6_runs_207 rfl (lv_at hl 0 rfl) ?_
  refine lv_dup hx hb dX6_runs_208 rfl ?_
  refine jm_get hx hb hts hown hK hP jm_f28 (by decide) jm_g28 dX6_runs_209 ?_
  refine lv_aload_n hx hb dX6_runs_212 rfl (lv_at hl 0 rfl) ?_
  refine lv_iload_n hx hb dX6_runs_213 rfl (lv_at hl 3 rfl) ?_
  refine lv_iconst hx hb dX6_runs_214 jx_ki2 ?_
  obtain ⟨q1, eq1, h⟩ := jx_bi_some h
  refine jm_callI hx hb hml hown hts hlv hK hZ (jm_of_met eq1) jm_of_g jm_of_d (As := [.int x3, .int (nI 2)]) (Nat.le_of_ble_eq_true rfl) (Nat.le_of_ble_eq_true rfl) hP hD hS hl.1 rfl rfl (lv_room (Nat.le_of_ble_eq_true rfl)) dX6_runs_215 (fun H locs hP hD hS => ?_)
  refine lv_if_ne (tgt := 225) hx hb dX6_runs_218 rfl (fun c2 => ?_) (fun c2 => ?_)
  · rw [if_neg c2] at h
    refine lv_aload_n hx hb dX6_runs_225 rfl (lv_at hl 0 rfl) ?_
    refine jm_get hx hb hts hown hK hP jm_f1 (by decide) jm_g1 dX6_runs_226 ?_
    refine lv_iconst hx hb dX6_runs_229 jx_ki4 ?_
    refine lv_aload_n hx hb dX6_runs_230 rfl (lv_at hl 0 rfl) ?_
    refine lv_iload_n hx hb dX6_runs_231 rfl (lv_at hl 3 rfl) ?_
    refine lv_iconst hx hb dX6_runs_232 jx_ki2 ?_
    obtain ⟨q3, eq3, h⟩ := jx_bi_some h
    refine jm_callI hx hb hml hown hts hlv hK hZ (jm_of_met eq3) jm_of_g jm_of_d (As := [.int x3, .int (nI 2)]) (Nat.le_of_ble_eq_true rfl) (Nat.le_of_ble_eq_true rfl) hP hD hS hl.1 rfl rfl (lv_room (Nat.le_of_ble_eq_true rfl)) dX6_runs_233 (fun H locs hP hD hS => ?_)
    refine lv_iadd hx hb dX6_runs_236 ?_
    obtain ⟨j4, ej4, bj4, h⟩ := jx_ga_some h
    refine jm_iald hx hb hK hP jm_a1 ej4 bj4 dX6_runs_237 ?_
    exact jm_runs_b238_ok hX F hr53 _ _ _ _ _ _ h _ _ _ hP hD hS hl
  · rw [if_pos c2] at h
    refine lv_iconst hx hb dX6_runs_221 jx_ki0 ?_
    refine lv_goto (tgt := 238) hx hb dX6_runs_222 rfl ?_
    exact jm_runs_b238_ok hX F hr53 _ _ _ _ _ _ h _ _ _ hP hD hS hl
theorem jm_runs_b177_ok {out : jm_S} (hX : jm_Ok p R s m args meth c A D ck ad sa cX6_runs 5 none 9) (F : Nat) {r53 : Int32 × Int32 × jm_S → Option (jm_S)} (hr53 : ∀ a, r53 a = some out → jm_J p l e R s m args below meth c A D ck ad 5 (jm_Qv below args s A D ck ad sa out) 53 [(0, .ref (ad 0)), (1, .int a.1), (2, .int a.2.1)] [] a.2.2) (x1 : Int32) (x2 : Int32) (x3 : Int32) (x4 : Int32) (S : jm_S) (h : jm_runs_b177 F r53 x1 x2 x3 x4 S = some out) : jm_J p l e R s m args below meth c A D ck ad 5 (jm_Qv below args s A D ck ad sa out) 177 [(0, .ref (ad 0)), (1, .int x1), (2, .int x2), (3, .int x3), (4, .int x4)] [] S := by
  intro H locs ls hP hD hS hl
  have hX0 := hX
  obtain ⟨hx, hb, hml, hown, hts, hlk, hr, hlv, hK, hZ⟩ := hX0
  unfold jm_runs_b177 at h
  refine lv_aload_n hx hb dX6_runs_177 rfl (lv_at hl 0 rfl) ?_
  refine lv_dup hx hb dX6_runs_178 rfl ?_
  refine jm_get hx hb hts hown hK hP jm_f29 (by decide) jm_g29 dX6_runs_179 ?_
  refine lv_iconst hx hb dX6_runs_182 jx_ki1 ?_
  refine lv_iadd hx hb dX6_runs_183 ?_
  obtain ⟨S1, eS1, h⟩ := jx_nx_some h
  refine jm_put hx hb hts hown hK hP hD hS eS1 jm_f29 (by decide) jm_n29 jm_d29 jm_p29 dX6_runs_184 (fun H locs hP hD hS => ?_)
  refine lv_iload hx hb dX6_runs_187 (lv_at hl 4 rfl) ?_
  refine lv_if_eq (tgt := 207) hx hb dX6_runs_189 rfl (fun c2 => ?_) (fun c2 => ?_)
  · rw [if_pos c2] at h
    exact jm_runs_b207_ok hX F hr53 _ _ _ _ h _ _ _ hP hD hS (lv_sub hl [0, 1, 2, 3] rfl)
  · rw [if_neg c2] at h
    refine lv_aload_n hx hb dX6_runs_192 rfl (lv_at hl 0 rfl) ?_
    refine jm_get hx hb hts hown hK hP jm_f32 (by decide) jm_g32 dX6_runs_193 ?_
    refine lv_if_ne (tgt := 207) hx hb dX6_runs_196 rfl (fun c3 => ?_) (fun c3 => ?_)
    · rw [if_neg c3] at h
      exact jm_runs_b207_ok hX F hr53 _ _ _ _ h _ _ _ hP hD hS (lv_sub hl [0, 1, 2, 3] rfl)
    · rw [if_pos c3] at h
      refine lv_aload_n hx hb dX6_runs_199 rfl (lv_at hl 0 rfl) ?_
      refine lv_aload_n hx hb dX6_runs_200 rfl (lv_at hl 0 rfl) ?_
      refine jm_get hx hb hts hown hK hP jm_f29 (by decide) jm_g29 dX6_runs_201 ?_
      obtain ⟨S4, eS4, h⟩ := jx_nx_some h
      refine jm_put hx hb hts hown hK hP hD hS eS4 jm_f32 (by decide) jm_n32 jm_d32 jm_p32 dX6_runs_204 (fun H locs hP hD hS => ?_)
      exact jm_runs_b207_ok hX F hr53 _ _ _ _ h _ _ _ hP hD hS (lv_sub hl [0, 1, 2, 3] rfl)
theorem jm_runs_b61_ok {out : jm_S} (hX : jm_Ok p R s m args meth c A D ck ad sa cX6_runs 5 none 9) (F : Nat) {r53 : Int32 × Int32 × jm_S → Option (jm_S)} (hr53 : ∀ a, r53 a = some out → jm_J p l e R s m args below meth c A D ck ad 5 (jm_Qv below args s A D ck ad sa out) 53 [(0, .ref (ad 0)), (1, .int a.1), (2, .int a.2.1)] [] a.2.2) (x1 : Int32) (x2 : Int32) (S : jm_S) (h : jm_runs_b61 F r53 x1 x2 S = some out) : jm_J p l e R s m args below meth c A D ck ad 5 (jm_Qv below args s A D ck ad sa out) 61 [(0, .ref (ad 0)), (1, .int x1), (2, .int x2)] [] S := by
  intro H locs ls hP hD hS hl
  have hX0 := hX
  obtain ⟨hx, hb, hml, hown, hts, hlk, hr, hlv, hK, hZ⟩ := hX0
  unfold jm_runs_b61 at h
  refine lv_aload_n hx hb dX6_runs_61 rfl (lv_at hl 0 rfl) ?_
  refine jm_get hx hb hts hown hK hP jm_f24 (by decide) jm_g24 dX6_runs_62 ?_
  refine lv_sipush hx hb dX6_runs_65 jx_ks300 ?_
  refine lv_icmp_ne (tgt := 77) hx hb dX6_runs_68 rfl (fun c1 => ?_) (fun c1 => ?_)
  · rw [if_neg c1] at h
    refine lv_aload_n hx hb dX6_runs_77 rfl (lv_at hl 0 rfl) ?_
    refine lv_aload_n hx hb dX6_runs_78 rfl (lv_at hl 0 rfl) ?_
    refine jm_get hx hb hts hown hK hP jm_f27 (by decide) jm_g27 dX6_runs_79 ?_
    obtain ⟨q2, eq2, h⟩ := jx_bi_some h
    refine jm_callI hx hb hml hown hts hlv hK hZ (jm_isTrapped_met eq2) jm_isTrapped_g jm_isTrapped_d (As := [.int (S.1 27)]) (Nat.le_of_ble_eq_true rfl) (Nat.le_of_ble_eq_true rfl) hP hD hS hl.1 rfl rfl (lv_room (Nat.le_of_ble_eq_true rfl)) dX6_runs_82 (fun H locs hP hD hS => ?_)
    refine lv_if_eq (tgt := 94) hx hb dX6_runs_85 rfl (fun c3 => ?_) (fun c3 => ?_)
    · rw [if_pos c3] at h
      refine lv_aload_n hx hb dX6_runs_94 rfl (lv_at hl 0 rfl) ?_
      refine jm_get hx hb hts hown hK hP jm_f27 (by decide) jm_g27 dX6_runs_95 ?_
      obtain ⟨y4, ey4, h⟩ := jx_nx_some h
      refine jx_topi ey4 ?_
      refine lv_istore_n (lv' := [(3, .int y4), (0, .ref (ad 0)), (1, .int x1), (2, .int x2)]) hx hb dX6_runs_98 rfl hl (Nat.le_of_ble_eq_true rfl) rfl (fun ls hl => ?_)
      refine lv_aload_n hx hb dX6_runs_99 rfl (lv_at hl 1 rfl) ?_
      refine lv_iload_n hx hb dX6_runs_100 rfl (lv_at hl 0 rfl) ?_
      obtain ⟨q5, eq5, h⟩ := jx_bi_some h
      refine jm_callI hx hb hml hown hts hlv hK hZ (jm_isJump_met eq5) jm_isJump_g jm_isJump_d (As := [.int y4]) (Nat.le_of_ble_eq_true rfl) (Nat.le_of_ble_eq_true rfl) hP hD hS hl.1 rfl rfl (lv_room (Nat.le_of_ble_eq_true rfl)) dX6_runs_101 (fun H locs hP hD hS => ?_)
      refine lv_if_eq (tgt := 242) hx hb dX6_runs_104 rfl (fun c6 => ?_) (fun c6 => ?_)
      · rw [if_pos c6] at h
        exact jm_runs_b242_ok hX F hr53 _ _ _ _ h _ _ _ hP hD hS (lv_sub hl [1, 2, 3, 0] rfl)
      · rw [if_neg c6] at h
        refine lv_aload_n hx hb dX6_runs_107 rfl (lv_at hl 1 rfl) ?_
        refine lv_iload_n hx hb dX6_runs_108 rfl (lv_at hl 0 rfl) ?_
        obtain ⟨q7, eq7, h⟩ := jx_bi_some h
        refine jm_callI hx hb hml hown hts hlv hK hZ (jm_isGuarded_met eq7) jm_isGuarded_g jm_isGuarded_d (As := [.int y4]) (Nat.le_of_ble_eq_true rfl) (Nat.le_of_ble_eq_true rfl) hP hD hS hl.1 rfl rfl (lv_room (Nat.le_of_ble_eq_true rfl)) dX6_runs_109 (fun H locs hP hD hS => ?_)
        obtain ⟨y8, ey8, h⟩ := jx_nx_some h
        refine jx_topi ey8 ?_
        refine lv_istore (lv' := [(4, .int y8), (3, .int y4), (0, .ref (ad 0)), (1, .int x1), (2, .int x2)]) hx hb dX6_runs_112 hl (Nat.le_of_ble_eq_true rfl) rfl (fun ls hl => ?_)
        refine lv_iload hx hb dX6_runs_114 (lv_at hl 0 rfl) ?_
        refine lv_if_eq (tgt := 177) hx hb dX6_runs_116 rfl (fun c9 => ?_) (fun c9 => ?_)
        · rw [if_pos c9] at h
          exact jm_runs_b177_ok hX F hr53 _ _ _ _ _ h _ _ _ hP hD hS (lv_sub hl [2, 3, 4, 1, 0] rfl)
        · rw [if_neg c9] at h
          refine lv_iload_n hx hb dX6_runs_119 rfl (lv_at hl 4 rfl) ?_
          refine lv_if_eq (tgt := 177) hx hb dX6_runs_120 rfl (fun c10 => ?_) (fun c10 => ?_)
          · rw [if_pos c10] at h
            exact jm_runs_b177_ok hX F hr53 _ _ _ _ _ h _ _ _ hP hD hS (lv_sub hl [2, 3, 4, 1, 0] rfl)
          · rw [if_neg c10] at h
            refine lv_aload_n hx hb dX6_runs_123 rfl (lv_at hl 2 rfl) ?_
            refine lv_iconst hx hb dX6_runs_124 jx_ki1 ?_
            obtain ⟨S11, eS11, h⟩ := jx_nx_some h
            refine jm_put hx hb hts hown hK hP hD hS eS11 jm_f26 (by decide) jm_n26 jm_d26 jm_p26 dX6_runs_125 (fun H locs hP hD hS => ?_)
            refine lv_aload_n hx hb dX6_runs_128 rfl (lv_at hl 2 rfl) ?_
            refine lv_aload_n hx hb dX6_runs_129 rfl (lv_at hl 2 rfl) ?_
            refine lv_iload_n hx hb dX6_runs_130 rfl (lv_at hl 1 rfl) ?_
            obtain ⟨q12, eq12, h⟩ := jx_bi_some h
            refine jm_callI hx hb hml hown hts hlv hK hZ (jm_landingOf_met eq12) jm_landingOf_g jm_landingOf_d (As := [.int y4]) (Nat.le_of_ble_eq_true rfl) (Nat.le_of_ble_eq_true rfl) hP hD hS hl.1 rfl rfl (lv_room (Nat.le_of_ble_eq_true rfl)) dX6_runs_131 (fun H locs hP hD hS => ?_)
            obtain ⟨S13, eS13, h⟩ := jx_nx_some h
            refine jm_put hx hb hts hown hK hP hD hS eS13 jm_f31 (by decide) jm_n31 jm_d31 jm_p31 dX6_runs_134 (fun H locs hP hD hS => ?_)
            refine lv_aload_n hx hb dX6_runs_137 rfl (lv_at hl 2 rfl) ?_
            refine lv_aload_n hx hb dX6_runs_138 rfl (lv_at hl 2 rfl) ?_
            refine lv_iload_n hx hb dX6_runs_139 rfl (lv_at hl 1 rfl) ?_
            obtain ⟨q14, eq14, h⟩ := jx_bi_some h
            refine jm_callI hx hb hml hown hts hlv hK hZ (jm_wordOf_met eq14) jm_wordOf_g jm_wordOf_d (As := [.int y4]) (Nat.le_of_ble_eq_true rfl) (Nat.le_of_ble_eq_true rfl) hP hD hS hl.1 rfl rfl (lv_room (Nat.le_of_ble_eq_true rfl)) dX6_runs_140 (fun H locs hP hD hS => ?_)
            refine lv_bipush hx hb dX6_runs_143 jx_kb7 ?_
            refine lv_icmp_ne (tgt := 162) hx hb dX6_runs_145 rfl (fun c15 => ?_) (fun c15 => ?_)
            · rw [if_neg c15] at h
              refine lv_aload_n hx hb dX6_runs_162 rfl (lv_at hl 2 rfl) ?_
              refine jm_get hx hb hts hown hK hP jm_f17 (by decide) jm_g17 dX6_runs_163 ?_
              refine lv_aload_n hx hb dX6_runs_166 rfl (lv_at hl 2 rfl) ?_
              refine lv_iload_n hx hb dX6_runs_167 rfl (lv_at hl 1 rfl) ?_
              refine lv_iconst hx hb dX6_runs_168 jx_ki5 ?_
              obtain ⟨q16, eq16, h⟩ := jx_bi_some h
              refine jm_callI hx hb hml hown hts hlv hK hZ (jm_of_met eq16) jm_of_g jm_of_d (As := [.int y4, .int (nI 5)]) (Nat.le_of_ble_eq_true rfl) (Nat.le_of_ble_eq_true rfl) hP hD hS hl.1 rfl rfl (lv_room (Nat.le_of_ble_eq_true rfl)) dX6_runs_169 (fun H locs hP hD hS => ?_)
              obtain ⟨j17, ej17, bj17, h⟩ := jx_ga_some h
              refine jm_iald hx hb hK hP jm_a17 ej17 bj17 dX6_runs_172 ?_
              obtain ⟨S18, eS18, h⟩ := jx_nx_some h
              refine jm_put hx hb hts hown hK hP hD hS eS18 jm_f30 (by decide) jm_n30 jm_d30 jm_p30 dX6_runs_173 (fun H locs hP hD hS => ?_)
              exact jm_vret hx hb hr hlk hK hZ hP hD hS h dX6_runs_176
            · rw [if_pos c15] at h
              refine lv_aload_n hx hb dX6_runs_148 rfl (lv_at hl 2 rfl) ?_
              refine jm_get hx hb hts hown hK hP jm_f19 (by decide) jm_g19 dX6_runs_149 ?_
              refine lv_aload_n hx hb dX6_runs_152 rfl (lv_at hl 2 rfl) ?_
              refine jm_get hx hb hts hown hK hP jm_f21 (by decide) jm_g21 dX6_runs_153 ?_
              refine lv_iconst hx hb dX6_runs_156 jx_ki1 ?_
              refine lv_isub hx hb dX6_runs_157 ?_
              obtain ⟨j19, ej19, bj19, h⟩ := jx_ga_some h
              refine jm_iald hx hb hK hP jm_a19 ej19 bj19 dX6_runs_158 ?_
              refine lv_goto (tgt := 173) hx hb dX6_runs_159 rfl ?_
              obtain ⟨S20, eS20, h⟩ := jx_nx_some h
              refine jm_put hx hb hts hown hK hP hD hS eS20 jm_f30 (by decide) jm_n30 jm_d30 jm_p30 dX6_runs_173 (fun H locs hP hD hS => ?_)
              exact jm_vret hx hb hr hlk hK hZ hP hD hS h dX6_runs_176
    · rw [if_neg c3] at h
      refine lv_aload_n hx hb dX6_runs_88 rfl (lv_at hl 0 rfl) ?_
      refine lv_iconst hx hb dX6_runs_89 jx_ki3 ?_
      obtain ⟨S21, eS21, h⟩ := jx_nx_some h
      refine jm_put hx hb hts hown hK hP hD hS eS21 jm_f26 (by decide) jm_n26 jm_d26 jm_p26 dX6_runs_90 (fun H locs hP hD hS => ?_)
      exact jm_vret hx hb hr hlk hK hZ hP hD hS h dX6_runs_93
  · rw [if_pos c1] at h
    refine lv_aload_n hx hb dX6_runs_71 rfl (lv_at hl 0 rfl) ?_
    refine lv_iconst hx hb dX6_runs_72 jx_ki2 ?_
    obtain ⟨S22, eS22, h⟩ := jx_nx_some h
    refine jm_put hx hb hts hown hK hP hD hS eS22 jm_f26 (by decide) jm_n26 jm_d26 jm_p26 dX6_runs_73 (fun H locs hP hD hS => ?_)
    exact jm_vret hx hb hr hlk hK hZ hP hD hS h dX6_runs_76
theorem jm_runs_L53_ok {out : jm_S} (hX : jm_Ok p R s m args meth c A D ck ad sa cX6_runs 5 none 9) (F : Nat) {r53 : Int32 × Int32 × jm_S → Option (jm_S)} (hr53 : ∀ a, r53 a = some out → jm_J p l e R s m args below meth c A D ck ad 5 (jm_Qv below args s A D ck ad sa out) 53 [(0, .ref (ad 0)), (1, .int a.1), (2, .int a.2.1)] [] a.2.2) (x1 : Int32) (x2 : Int32) (S : jm_S) (h : jm_runs_L53 F r53 x1 x2 S = some out) : jm_J p l e R s m args below meth c A D ck ad 5 (jm_Qv below args s A D ck ad sa out) 53 [(0, .ref (ad 0)), (1, .int x1), (2, .int x2)] [] S := by
  intro H locs ls hP hD hS hl
  have hX0 := hX
  obtain ⟨hx, hb, hml, hown, hts, hlk, hr, hlv, hK, hZ⟩ := hX0
  unfold jm_runs_L53 at h
  refine lv_iload_n hx hb dX6_runs_53 rfl (lv_at hl 1 rfl) ?_
  refine lv_if_eq (tgt := 61) hx hb dX6_runs_54 rfl (fun c1 => ?_) (fun c1 => ?_)
  · rw [if_pos c1] at h
    exact jm_runs_b61_ok hX F hr53 _ _ _ h _ _ _ hP hD hS hl
  · rw [if_neg c1] at h
    refine lv_aload_n hx hb dX6_runs_57 rfl (lv_at hl 0 rfl) ?_
    obtain ⟨q2, eq2, h⟩ := jx_bi_some h
    refine jm_callV hx hb hml hown hts hlv hK hZ (jm_bendsNow_met eq2) jm_bendsNow_g jm_bendsNow_d (As := []) (Nat.le_of_ble_eq_true rfl) (Nat.le_of_ble_eq_true rfl) hP hD hS hl.1 rfl rfl (lv_room (Nat.le_of_ble_eq_true rfl)) dX6_runs_58 (fun H locs hP hD hS => ?_)
    exact jm_runs_b61_ok hX F hr53 _ _ _ h _ _ _ hP hD hS hl
theorem jm_runs_h53_ok {out : jm_S} (hX : jm_Ok p R s m args meth c A D ck ad sa cX6_runs 5 none 9) (F : Nat) (n : Nat) (a : Int32 × Int32 × jm_S) (h : jm_runs_h53 F n a = some out) : jm_J p l e R s m args below meth c A D ck ad 5 (jm_Qv below args s A D ck ad sa out) 53 [(0, .ref (ad 0)), (1, .int a.1), (2, .int a.2.1)] [] a.2.2 :=
  jx_loop_ind (J := fun a => jm_J p l e R s m args below meth c A D ck ad 5 (jm_Qv below args s A D ck ad sa out) 53 [(0, .ref (ad 0)), (1, .int a.1), (2, .int a.2.1)] [] a.2.2) (fun r hr a h => jm_runs_L53_ok hX F hr a.1 a.2.1 a.2.2 h) n a h
theorem jm_runs_L6_ok {out : jm_S} (hX : jm_Ok p R s m args meth c A D ck ad sa cX6_runs 5 none 9) (F : Nat) {r6 : Int32 × Int32 × Int32 × jm_S → Option (jm_S)} (hr6 : ∀ a, r6 a = some out → jm_J p l e R s m args below meth c A D ck ad 5 (jm_Qv below args s A D ck ad sa out) 6 [(0, .ref (ad 0)), (1, .int a.1), (2, .int a.2.1), (3, .int a.2.2.1)] [] a.2.2.2) (x1 : Int32) (x2 : Int32) (x3 : Int32) (S : jm_S) (h : jm_runs_L6 F r6 x1 x2 x3 S = some out) : jm_J p l e R s m args below meth c A D ck ad 5 (jm_Qv below args s A D ck ad sa out) 6 [(0, .ref (ad 0)), (1, .int x1), (2, .int x2), (3, .int x3)] [] S := by
  intro H locs ls hP hD hS hl
  have hX0 := hX
  obtain ⟨hx, hb, hml, hown, hts, hlk, hr, hlv, hK, hZ⟩ := hX0
  unfold jm_runs_L6 at h
  refine lv_iload_n hx hb dX6_runs_6 rfl (lv_at hl 3 rfl) ?_
  refine lv_aload_n hx hb dX6_runs_7 rfl (lv_at hl 0 rfl) ?_
  obtain ⟨q1, eq1, h⟩ := jx_bi_some h
  refine jm_callI hx hb hml hown hts hlv hK hZ (jm_orders_met eq1) jm_orders_g jm_orders_d (As := []) (Nat.le_of_ble_eq_true rfl) (Nat.le_of_ble_eq_true rfl) hP hD hS hl.1 rfl rfl (lv_room (Nat.le_of_ble_eq_true rfl)) dX6_runs_8 (fun H locs hP hD hS => ?_)
  refine lv_icmp_ge (tgt := 49) hx hb dX6_runs_11 rfl (fun c2 => ?_) (fun c2 => ?_)
  · rw [if_pos c2] at h
    refine lv_aload_n hx hb dX6_runs_49 rfl (lv_at hl 0 rfl) ?_
    obtain ⟨q3, eq3, h⟩ := jx_bi_some h
    refine jm_callV hx hb hml hown hts hlv hK hZ (jm_begins_met eq3) jm_begins_g jm_begins_d (As := []) (Nat.le_of_ble_eq_true rfl) (Nat.le_of_ble_eq_true rfl) hP hD hS hl.1 rfl rfl (lv_room (Nat.le_of_ble_eq_true rfl)) dX6_runs_50 (fun H locs hP hD hS => ?_)
    exact jm_runs_h53_ok hX F F _ h _ _ _ hP hD hS (lv_sub hl [0, 1, 2] rfl)
  · rw [if_neg c2] at h
    refine lv_aload_n hx hb dX6_runs_14 rfl (lv_at hl 0 rfl) ?_
    refine jm_get hx hb hts hown hK hP jm_f33 (by decide) jm_g33 dX6_runs_15 ?_
    refine lv_iload_n hx hb dX6_runs_18 rfl (lv_at hl 3 rfl) ?_
    refine lv_aload_n hx hb dX6_runs_19 rfl (lv_at hl 0 rfl) ?_
    refine lv_iload_n hx hb dX6_runs_20 rfl (lv_at hl 3 rfl) ?_
    obtain ⟨q4, eq4, h⟩ := jx_bi_some h
    refine jm_callI hx hb hml hown hts hlv hK hZ (jm_isJump_met eq4) jm_isJump_g jm_isJump_d (As := [.int x3]) (Nat.le_of_ble_eq_true rfl) (Nat.le_of_ble_eq_true rfl) hP hD hS hl.1 rfl rfl (lv_room (Nat.le_of_ble_eq_true rfl)) dX6_runs_21 (fun H locs hP hD hS => ?_)
    refine lv_if_eq (tgt := 41) hx hb dX6_runs_24 rfl (fun c5 => ?_) (fun c5 => ?_)
    · rw [if_pos c5] at h
      refine lv_lconst hx hb dX6_runs_41 jx_kl0 ?_
      exact jm_runs_b42_ok hX F hr6 _ _ _ _ _ _ h _ _ _ hP hD hS hl
    · rw [if_neg c5] at h
      refine lv_aload_n hx hb dX6_runs_27 rfl (lv_at hl 0 rfl) ?_
      refine lv_iload_n hx hb dX6_runs_28 rfl (lv_at hl 3 rfl) ?_
      refine lv_aload_n hx hb dX6_runs_29 rfl (lv_at hl 0 rfl) ?_
      refine lv_iload_n hx hb dX6_runs_30 rfl (lv_at hl 3 rfl) ?_
      refine lv_iconst hx hb dX6_runs_31 jx_ki2 ?_
      obtain ⟨q6, eq6, h⟩ := jx_bi_some h
      refine jm_callI hx hb hml hown hts hlv hK hZ (jm_of_met eq6) jm_of_g jm_of_d (As := [.int x3, .int (nI 2)]) (Nat.le_of_ble_eq_true rfl) (Nat.le_of_ble_eq_true rfl) hP hD hS hl.1 rfl rfl (lv_room (Nat.le_of_ble_eq_true rfl)) dX6_runs_32 (fun H locs hP hD hS => ?_)
      obtain ⟨q7, eq7, h⟩ := jx_bi_some h
      refine jm_callL hx hb hml hown hts hlv hK hZ (jm_letsBy_met eq7) jm_letsBy_g jm_letsBy_d (As := [.int x3, .int q6.1]) (Nat.le_of_ble_eq_true rfl) (Nat.le_of_ble_eq_true rfl) hP hD hS hl.1 rfl rfl (lv_room (Nat.le_of_ble_eq_true rfl)) dX6_runs_35 (fun H locs hP hD hS => ?_)
      refine lv_goto (tgt := 42) hx hb dX6_runs_38 rfl ?_
      exact jm_runs_b42_ok hX F hr6 _ _ _ _ _ _ h _ _ _ hP hD hS hl
theorem jm_runs_h6_ok {out : jm_S} (hX : jm_Ok p R s m args meth c A D ck ad sa cX6_runs 5 none 9) (F : Nat) (n : Nat) (a : Int32 × Int32 × Int32 × jm_S) (h : jm_runs_h6 F n a = some out) : jm_J p l e R s m args below meth c A D ck ad 5 (jm_Qv below args s A D ck ad sa out) 6 [(0, .ref (ad 0)), (1, .int a.1), (2, .int a.2.1), (3, .int a.2.2.1)] [] a.2.2.2 :=
  jx_loop_ind (J := fun a => jm_J p l e R s m args below meth c A D ck ad 5 (jm_Qv below args s A D ck ad sa out) 6 [(0, .ref (ad 0)), (1, .int a.1), (2, .int a.2.1), (3, .int a.2.2.1)] [] a.2.2.2) (fun r hr a h => jm_runs_L6_ok hX F hr a.1 a.2.1 a.2.2.1 a.2.2.2 h) n a h
theorem jm_runs_ok {out : jm_S} (hX : jm_Ok p R s m args meth c A D ck ad sa cX6_runs 5 none 9) (F : Nat) (x1 : Int32) (x2 : Int32) (S : jm_S) (h : jm_runs F x1 x2 S = some out) : jm_J p l e R s m args below meth c A D ck ad 5 (jm_Qv below args s A D ck ad sa out) 0 [(0, .ref (ad 0)), (1, .int x1), (2, .int x2)] [] S := by
  intro H locs ls hP hD hS hl
  have hX0 := hX
  obtain ⟨hx, hb, hml, hown, hts, hlk, hr, hlv, hK, hZ⟩ := hX0
  unfold jm_runs at h
  refine lv_aload_n hx hb dX6_runs_0 rfl (lv_at hl 0 rfl) ?_
  obtain ⟨q1, eq1, h⟩ := jx_bi_some h
  refine jm_callV hx hb hml hown hts hlv hK hZ (jm_flows_met eq1) jm_flows_g jm_flows_d (As := []) (Nat.le_of_ble_eq_true rfl) (Nat.le_of_ble_eq_true rfl) hP hD hS hl.1 rfl rfl (lv_room (Nat.le_of_ble_eq_true rfl)) dX6_runs_1 (fun H locs hP hD hS => ?_)
  refine lv_iconst hx hb dX6_runs_4 jx_ki0 ?_
  obtain ⟨y2, ey2, h⟩ := jx_nx_some h
  refine jx_topi ey2 ?_
  refine lv_istore_n (lv' := [(3, .int y2), (0, .ref (ad 0)), (1, .int x1), (2, .int x2)]) hx hb dX6_runs_5 rfl hl (Nat.le_of_ble_eq_true rfl) rfl (fun ls hl => ?_)
  exact jm_runs_h6_ok hX F F _ h _ _ _ hP hD hS (lv_sub hl [1, 2, 3, 0] rfl)
theorem jm_runs_met {l : Launch} {D : va_G} {ck : Nat → ClassId} {ad sa : Nat → Nat} {A : Nat → Prop} {F : Nat} {x1 : Int32} {x2 : Int32} {S : jm_S} {out : jm_S} (h : jm_runs F x1 x2 S = some out) : jm_Mv l D ck ad sa A yX6_runs cX6_runs 5 none 9 [.int x1, .int x2] S out :=
  jm_Mv_of ⟨by decide, rfl, Nat.le_of_ble_eq_true rfl⟩ (fun hX => jm_runs_ok hX F x1 x2 S h)
theorem jm_run_d : yX6_run.cls = RX6 ∧ yX6_run.cls ≠ "java/lang/invoke/MethodHandle" ∧ yX6_run.cls ≠ "java/lang/invoke/VarHandle" ∧ (parseMethodDescriptor yX6_run.desc).map (fun d => d.parameters.length) = some 2 := by decide +kernel
theorem jm_run_b21_ok {out : Int32 × jm_S} (hX : jm_Ok p R s m args meth c A D ck ad sa cX6_run 3 (some .int) 10) (F : Nat) (x1 : Int32) (x2 : Int32) (k0 : Int32) (S : jm_S) (h : jm_run_b21 F x1 x2 k0 S = some out) : jm_J p l e R s m args below meth c A D ck ad 3 (jm_Qi below args s A D ck ad sa out) 21 [(0, .ref (ad 0)), (1, .int x1), (2, .int x2)] [.int k0, .ref (ad 0)] S := by
  intro H locs ls hP hD hS hl
  have hX0 := hX
  obtain ⟨hx, hb, hml, hown, hts, hlk, hr, hlv, hK, hZ⟩ := hX0
  unfold jm_run_b21 at h
  refine lv_iconst hx hb dX6_run_21 jx_ki1 ?_
  obtain ⟨q1, eq1, h⟩ := jx_bi_some h
  refine jm_callI hx hb hml hown hts hlv hK hZ (jm_throwsIf_met eq1) jm_throwsIf_g jm_throwsIf_d (As := [.int k0, .int (nI 1)]) (Nat.le_of_ble_eq_true rfl) (Nat.le_of_ble_eq_true rfl) hP hD hS hl.1 rfl rfl (lv_room (Nat.le_of_ble_eq_true rfl)) dX6_run_22 (fun H locs hP hD hS => ?_)
  refine lv_if_eq (tgt := 30) hx hb dX6_run_25 rfl (fun c2 => ?_) (fun c2 => ?_)
  · rw [if_pos c2] at h
    refine lv_aload_n hx hb dX6_run_30 rfl (lv_at hl 0 rfl) ?_
    refine lv_iload_n hx hb dX6_run_31 rfl (lv_at hl 1 rfl) ?_
    refine lv_iconst hx hb dX6_run_32 jx_ki1 ?_
    obtain ⟨q3, eq3, h⟩ := jx_bi_some h
    refine jm_callV hx hb hml hown hts hlv hK hZ (jm_runs_met eq3) jm_runs_g jm_runs_d (As := [.int x1, .int (nI 1)]) (Nat.le_of_ble_eq_true rfl) (Nat.le_of_ble_eq_true rfl) hP hD hS hl.1 rfl rfl (lv_room (Nat.le_of_ble_eq_true rfl)) dX6_run_33 (fun H locs hP hD hS => ?_)
    refine lv_iload_n hx hb dX6_run_36 rfl (lv_at hl 2 rfl) ?_
    by_cases sw37_0 : x2 = nI 0
    · rw [if_pos sw37_0] at h
      refine lv_tableIn (tgt := 80) (off := 43) hx hb dX6_run_37 (by rw [sw37_0]; decide) (by rw [sw37_0]; decide) (by rw [sw37_0]; decide) rfl ?_
      refine lv_aload_n hx hb dX6_run_80 rfl (lv_at hl 0 rfl) ?_
      refine jm_get hx hb hts hown hK hP jm_f26 (by decide) jm_g26 dX6_run_81 ?_
      exact jm_iret hx hb hr hlk hK hZ hP hD hS h dX6_run_84
    · rw [if_neg sw37_0] at h
      by_cases sw37_1 : x2 = nI 1
      · rw [if_pos sw37_1] at h
        refine lv_tableIn (tgt := 85) (off := 48) hx hb dX6_run_37 (by rw [sw37_1]; decide) (by rw [sw37_1]; decide) (by rw [sw37_1]; decide) rfl ?_
        refine lv_aload_n hx hb dX6_run_85 rfl (lv_at hl 0 rfl) ?_
        refine jm_get hx hb hts hown hK hP jm_f24 (by decide) jm_g24 dX6_run_86 ?_
        exact jm_iret hx hb hr hlk hK hZ hP hD hS h dX6_run_89
      · rw [if_neg sw37_1] at h
        by_cases sw37_2 : x2 = nI 2
        · rw [if_pos sw37_2] at h
          refine lv_tableIn (tgt := 90) (off := 53) hx hb dX6_run_37 (by rw [sw37_2]; decide) (by rw [sw37_2]; decide) (by rw [sw37_2]; decide) rfl ?_
          refine lv_aload_n hx hb dX6_run_90 rfl (lv_at hl 0 rfl) ?_
          refine jm_get hx hb hts hown hK hP jm_f28 (by decide) jm_g28 dX6_run_91 ?_
          exact jm_iret hx hb hr hlk hK hZ hP hD hS h dX6_run_94
        · rw [if_neg sw37_2] at h
          by_cases sw37_3 : x2 = nI 3
          · rw [if_pos sw37_3] at h
            refine lv_tableIn (tgt := 95) (off := 58) hx hb dX6_run_37 (by rw [sw37_3]; decide) (by rw [sw37_3]; decide) (by rw [sw37_3]; decide) rfl ?_
            refine lv_aload_n hx hb dX6_run_95 rfl (lv_at hl 0 rfl) ?_
            refine jm_get hx hb hts hown hK hP jm_f27 (by decide) jm_g27 dX6_run_96 ?_
            exact jm_iret hx hb hr hlk hK hZ hP hD hS h dX6_run_99
          · rw [if_neg sw37_3] at h
            by_cases sw37_4 : x2 = nI 4
            · rw [if_pos sw37_4] at h
              refine lv_tableIn (tgt := 100) (off := 63) hx hb dX6_run_37 (by rw [sw37_4]; decide) (by rw [sw37_4]; decide) (by rw [sw37_4]; decide) rfl ?_
              refine lv_aload_n hx hb dX6_run_100 rfl (lv_at hl 0 rfl) ?_
              refine jm_get hx hb hts hown hK hP jm_f25 (by decide) jm_g25 dX6_run_101 ?_
              exact jm_iret hx hb hr hlk hK hZ hP hD hS h dX6_run_104
            · rw [if_neg sw37_4] at h
              by_cases sw37_5 : x2 = nI 5
              · rw [if_pos sw37_5] at h
                refine lv_tableIn (tgt := 105) (off := 68) hx hb dX6_run_37 (by rw [sw37_5]; decide) (by rw [sw37_5]; decide) (by rw [sw37_5]; decide) rfl ?_
                refine lv_aload_n hx hb dX6_run_105 rfl (lv_at hl 0 rfl) ?_
                refine jm_get hx hb hts hown hK hP jm_f29 (by decide) jm_g29 dX6_run_106 ?_
                exact jm_iret hx hb hr hlk hK hZ hP hD hS h dX6_run_109
              · rw [if_neg sw37_5] at h
                by_cases sw37_6 : x2 = nI 6
                · rw [if_pos sw37_6] at h
                  refine lv_tableIn (tgt := 110) (off := 73) hx hb dX6_run_37 (by rw [sw37_6]; decide) (by rw [sw37_6]; decide) (by rw [sw37_6]; decide) rfl ?_
                  refine lv_aload_n hx hb dX6_run_110 rfl (lv_at hl 0 rfl) ?_
                  refine jm_get hx hb hts hown hK hP jm_f30 (by decide) jm_g30 dX6_run_111 ?_
                  exact jm_iret hx hb hr hlk hK hZ hP hD hS h dX6_run_114
                · rw [if_neg sw37_6] at h
                  refine lv_tableOut (tgt := 115) hx hb dX6_run_37 (jx_sw7 sw37_0 sw37_1 sw37_2 sw37_3 sw37_4 sw37_5 sw37_6) rfl ?_
                  refine lv_aload_n hx hb dX6_run_115 rfl (lv_at hl 0 rfl) ?_
                  refine jm_get hx hb hts hown hK hP jm_f31 (by decide) jm_g31 dX6_run_116 ?_
                  exact jm_iret hx hb hr hlk hK hZ hP hD hS h dX6_run_119
  · rw [if_neg c2] at h
    refine lv_iconst hx hb dX6_run_28 jx_ki0 ?_
    exact jm_iret hx hb hr hlk hK hZ hP hD hS h dX6_run_29
theorem jm_run_ok {out : Int32 × jm_S} (hX : jm_Ok p R s m args meth c A D ck ad sa cX6_run 3 (some .int) 10) (F : Nat) (x1 : Int32) (x2 : Int32) (S : jm_S) (h : jm_run F x1 x2 S = some out) : jm_J p l e R s m args below meth c A D ck ad 3 (jm_Qi below args s A D ck ad sa out) 0 [(0, .ref (ad 0)), (1, .int x1), (2, .int x2)] [] S := by
  intro H locs ls hP hD hS hl
  have hX0 := hX
  obtain ⟨hx, hb, hml, hown, hts, hlk, hr, hlv, hK, hZ⟩ := hX0
  unfold jm_run at h
  refine lv_aload_n hx hb dX6_run_0 rfl (lv_at hl 0 rfl) ?_
  refine lv_iconst hx hb dX6_run_1 jx_ki0 ?_
  obtain ⟨S1, eS1, h⟩ := jx_nx_some h
  refine jm_put hx hb hts hown hK hP hD hS eS1 jm_f0 (by decide) jm_n0 jm_d0 jm_p0 dX6_run_2 (fun H locs hP hD hS => ?_)
  refine lv_aload_n hx hb dX6_run_5 rfl (lv_at hl 0 rfl) ?_
  refine lv_iload_n hx hb dX6_run_6 rfl (lv_at hl 2 rfl) ?_
  refine lv_iconst hx hb dX6_run_7 jx_ki0 ?_
  refine lv_bipush hx hb dX6_run_8 jx_kb7 ?_
  obtain ⟨q2, eq2, h⟩ := jx_bi_some h
  refine jx_callSi hx hb hml hown hts (jm_in_met eq2) jm_in_g_X6 jm_in_d (As := [.int x2, .int (nI 0), .int (nI 7)]) (by rw [hlv]; decide) hl.1 rfl rfl (lv_room (Nat.le_of_ble_eq_true rfl)) dX6_run_10 (by rw [hlv]; exact ⟨Nat.zero_le _, Nat.zero_le _⟩) ?_
  refine lv_if_ne (tgt := 20) hx hb dX6_run_13 rfl (fun c3 => ?_) (fun c3 => ?_)
  · rw [if_neg c3] at h
    refine lv_iconst hx hb dX6_run_20 jx_ki0 ?_
    exact jm_run_b21_ok hX F _ _ _ _ h _ _ _ hP hD hS hl
  · rw [if_pos c3] at h
    refine lv_iconst hx hb dX6_run_16 jx_ki1 ?_
    refine lv_goto (tgt := 21) hx hb dX6_run_17 rfl ?_
    exact jm_run_b21_ok hX F _ _ _ _ h _ _ _ hP hD hS hl
theorem jm_run_met {l : Launch} {D : va_G} {ck : Nat → ClassId} {ad sa : Nat → Nat} {A : Nat → Prop} {F : Nat} {x1 : Int32} {x2 : Int32} {S : jm_S} {out : Int32 × jm_S} (h : jm_run F x1 x2 S = some out) : jm_Mi l D ck ad sa A yX6_run cX6_run 3 (some .int) 10 [.int x1, .int x2] S out :=
  jm_Mi_of ⟨by decide, rfl, Nat.le_of_ble_eq_true rfl⟩ (fun hX => jm_run_ok hX F x1 x2 S h)
end

set_option maxRecDepth 100000
set_option maxHeartbeats 4000000
section
variable {p : Program} {l : Launch} {e : Env} {R : Room} {s : State} {m : MethodId} {args : Array Value} {below : List Frame} {meth : Method} {c : Code} {A : Nat → Prop} {D : va_G} {ck : Nat → ClassId} {ad sa : Nat → Nat} {lv : Nat}
theorem jm_throwsIf_d : yX6_throwsIf.cls = RX6 ∧ yX6_throwsIf.cls ≠ "java/lang/invoke/MethodHandle" ∧ yX6_throwsIf.cls ≠ "java/lang/invoke/VarHandle" ∧ (parseMethodDescriptor yX6_throwsIf.desc).map (fun d => d.parameters.length) = some 2 := by decide +kernel
theorem jm_throwsIf_g : GoodIn lw_all (wsV RX6 230 RX6 yX6_throwsIf (ws_ yX6_throwsIf cX6_throwsIf 3 (some .boolean))) := lw_V q1804 q1806 qs53 q110 q1807
theorem jm_throwsIf_ok {out : Int32 × jm_S} (hX : jm_Ok p R s m args meth c A D ck ad sa cX6_throwsIf 3 (some .boolean) 0) (F : Nat) (x1 : Int32) (x2 : Int32) (S : jm_S) (h : jm_throwsIf F x1 x2 S = some out) : jm_J p l e R s m args below meth c A D ck ad 3 (jm_Qi below args s A D ck ad sa out) 0 [(0, .ref (ad 0)), (1, .int x1), (2, .int x2)] [] S := by
  intro H locs ls hP hD hS hl
  have hX0 := hX
  obtain ⟨hx, hb, hml, hown, hts, hlk, hr, hlv, hK, hZ⟩ := hX0
  unfold jm_throwsIf at h
  refine lv_iload_n hx hb dX6_throwsIf_0 rfl (lv_at hl 1 rfl) ?_
  refine lv_if_eq (tgt := 9) hx hb dX6_throwsIf_1 rfl (fun c1 => ?_) (fun c1 => ?_)
  · rw [if_pos c1] at h
    refine lv_iload_n hx hb dX6_throwsIf_9 rfl (lv_at hl 1 rfl) ?_
    obtain ⟨z2, h⟩ := jx_gz_some h
    exact jm_zret hx hb hr hlk hK hZ hP hD hS z2 h dX6_throwsIf_10
  · rw [if_neg c1] at h
    refine lv_aload_n hx hb dX6_throwsIf_4 rfl (lv_at hl 0 rfl) ?_
    refine lv_iload_n hx hb dX6_throwsIf_5 rfl (lv_at hl 2 rfl) ?_
    obtain ⟨S3, eS3, h⟩ := jx_nx_some h
    refine jm_put hx hb hts hown hK hP hD hS eS3 jm_f0 (by decide) jm_n0 jm_d0 jm_p0 dX6_throwsIf_6 (fun H locs hP hD hS => ?_)
    refine lv_iload_n hx hb dX6_throwsIf_9 rfl (lv_at hl 1 rfl) ?_
    obtain ⟨z4, h⟩ := jx_gz_some h
    exact jm_zret hx hb hr hlk hK hZ hP hD hS z4 h dX6_throwsIf_10
theorem jm_throwsIf_met {l : Launch} {D : va_G} {ck : Nat → ClassId} {ad sa : Nat → Nat} {A : Nat → Prop} {F : Nat} {x1 : Int32} {x2 : Int32} {S : jm_S} {out : Int32 × jm_S} (h : jm_throwsIf F x1 x2 S = some out) : jm_Mi l D ck ad sa A yX6_throwsIf cX6_throwsIf 3 (some .boolean) 0 [.int x1, .int x2] S out :=
  jm_Mi_of ⟨by decide, rfl, Nat.le_of_ble_eq_true rfl⟩ (fun hX => jm_throwsIf_ok hX F x1 x2 S h)
theorem jm_uses_d : yX6_uses.cls = RX6 ∧ yX6_uses.cls ≠ "java/lang/invoke/MethodHandle" ∧ yX6_uses.cls ≠ "java/lang/invoke/VarHandle" ∧ (parseMethodDescriptor yX6_uses.desc).map (fun d => d.parameters.length) = some 0 := by decide +kernel
theorem jm_uses_g : GoodIn lw_all (wsV RX6 224 RX6 yX6_uses (ws_ yX6_uses cX6_uses 1 none)) := lw_V q1712 q1714 qs34 q110 q1715
theorem jm_uses_ok {out : jm_S} (hX : jm_Ok p R s m args meth c A D ck ad sa cX6_uses 1 none 0) (F : Nat)  (S : jm_S) (h : jm_uses F  S = some out) : jm_J p l e R s m args below meth c A D ck ad 1 (jm_Qv below args s A D ck ad sa out) 0 [(0, .ref (ad 0))] [] S := by
  intro H locs ls hP hD hS hl
  have hX0 := hX
  obtain ⟨hx, hb, hml, hown, hts, hlk, hr, hlv, hK, hZ⟩ := hX0
  unfold jm_uses at h
  refine lv_aload_n hx hb dX6_uses_0 rfl (lv_at hl 0 rfl) ?_
  refine lv_iconst hx hb dX6_uses_1 jx_ki0 ?_
  obtain ⟨S1, eS1, h⟩ := jx_nx_some h
  refine jm_put hx hb hts hown hK hP hD hS eS1 jm_f0 (by decide) jm_n0 jm_d0 jm_p0 dX6_uses_2 (fun H locs hP hD hS => ?_)
  refine lv_aload_n hx hb dX6_uses_5 rfl (lv_at hl 0 rfl) ?_
  refine lv_aload_n hx hb dX6_uses_6 rfl (lv_at hl 0 rfl) ?_
  refine jm_get hx hb hts hown hK hP jm_f5 (by decide) jm_g5 dX6_uses_7 ?_
  obtain ⟨S2, eS2, h⟩ := jx_nx_some h
  refine jm_put hx hb hts hown hK hP hD hS eS2 jm_f7 (by decide) jm_n7 jm_d7 jm_p7 dX6_uses_10 (fun H locs hP hD hS => ?_)
  refine lv_aload_n hx hb dX6_uses_13 rfl (lv_at hl 0 rfl) ?_
  refine lv_iconst hx hb dX6_uses_14 jx_ki0 ?_
  obtain ⟨S3, eS3, h⟩ := jx_nx_some h
  refine jm_put hx hb hts hown hK hP hD hS eS3 jm_f5 (by decide) jm_n5 jm_d5 jm_p5 dX6_uses_15 (fun H locs hP hD hS => ?_)
  refine lv_aload_n hx hb dX6_uses_18 rfl (lv_at hl 0 rfl) ?_
  refine lv_iconst hx hb dX6_uses_19 jx_ki0 ?_
  obtain ⟨S4, eS4, h⟩ := jx_nx_some h
  refine jm_put hx hb hts hown hK hP hD hS eS4 jm_f6 (by decide) jm_n6 jm_d6 jm_p6 dX6_uses_20 (fun H locs hP hD hS => ?_)
  exact jm_vret hx hb hr hlk hK hZ hP hD hS h dX6_uses_23
theorem jm_uses_met {l : Launch} {D : va_G} {ck : Nat → ClassId} {ad sa : Nat → Nat} {A : Nat → Prop} {F : Nat}  {S : jm_S} {out : jm_S} (h : jm_uses F  S = some out) : jm_Mv l D ck ad sa A yX6_uses cX6_uses 1 none 0 [] S out :=
  jm_Mv_of ⟨by decide, rfl, Nat.le_of_ble_eq_true rfl⟩ (fun hX => jm_uses_ok hX F  S h)
theorem jm_load_d : yX6_load.cls = RX6 ∧ yX6_load.cls ≠ "java/lang/invoke/MethodHandle" ∧ yX6_load.cls ≠ "java/lang/invoke/VarHandle" ∧ (parseMethodDescriptor yX6_load.desc).map (fun d => d.parameters.length) = some 0 := by decide +kernel
theorem jm_load_L46_ok {out : Int32 × jm_S} (hX : jm_Ok p R s m args meth c A D ck ad sa cX6_load 3 (some .int) 11) (F : Nat) {r46 : Int32 × Int32 × jm_S → Option (Int32 × jm_S)} (hr46 : ∀ a, r46 a = some out → jm_J p l e R s m args below meth c A D ck ad 3 (jm_Qi below args s A D ck ad sa out) 46 [(0, .ref (ad 0)), (1, .int a.1), (2, .int a.2.1)] [] a.2.2) (x1 : Int32) (x2 : Int32) (S : jm_S) (h : jm_load_L46 F r46 x1 x2 S = some out) : jm_J p l e R s m args below meth c A D ck ad 3 (jm_Qi below args s A D ck ad sa out) 46 [(0, .ref (ad 0)), (1, .int x1), (2, .int x2)] [] S := by
  intro H locs ls hP hD hS hl
  have hX0 := hX
  obtain ⟨hx, hb, hml, hown, hts, hlk, hr, hlv, hK, hZ⟩ := hX0
  unfold jm_load_L46 at h
  refine lv_iload_n hx hb dX6_load_46 rfl (lv_at hl 2 rfl) ?_
  refine lv_bipush hx hb dX6_load_47 jx_kb9 ?_
  refine lv_iload_n hx hb dX6_load_49 rfl (lv_at hl 1 rfl) ?_
  refine lv_imul hx hb dX6_load_50 ?_
  refine lv_icmp_ge (tgt := 83) hx hb dX6_load_51 rfl (fun c1 => ?_) (fun c1 => ?_)
  · rw [if_pos c1] at h
    refine lv_aload_n hx hb dX6_load_83 rfl (lv_at hl 0 rfl) ?_
    refine jm_get hx hb hts hown hK hP jm_f1 (by decide) jm_g1 dX6_load_84 ?_
    refine lv_iconst hx hb dX6_load_87 jx_ki0 ?_
    refine lv_dup2_11 hx hb dX6_load_88 rfl rfl ?_
    obtain ⟨j2, ej2, bj2, h⟩ := jx_ga_some h
    refine jm_iald hx hb hK hP jm_a1 ej2 bj2 dX6_load_89 ?_
    refine lv_iload_n hx hb dX6_load_90 rfl (lv_at hl 1 rfl) ?_
    refine lv_iadd hx hb dX6_load_91 ?_
    obtain ⟨j3, ej3, bj3, h⟩ := jx_ga_some h
    obtain ⟨S4, eS4, h⟩ := jx_nx_some h
    refine jm_iast hx hb hK hP hD hS jm_a1 (fun f => jm_u1 f) ej3 bj3 eS4 dX6_load_92 (fun H locs hP hD hS => ?_)
    refine lv_aload_n hx hb dX6_load_93 rfl (lv_at hl 0 rfl) ?_
    obtain ⟨q5, eq5, h⟩ := jx_bi_some h
    refine jm_callI hx hb hml hown hts hlv hK hZ (jm_orders_met eq5) jm_orders_g jm_orders_d (As := []) (Nat.le_of_ble_eq_true rfl) (Nat.le_of_ble_eq_true rfl) hP hD hS hl.1 rfl rfl (lv_room (Nat.le_of_ble_eq_true rfl)) dX6_load_94 (fun H locs hP hD hS => ?_)
    exact jm_iret hx hb hr hlk hK hZ hP hD hS h dX6_load_97
  · rw [if_neg c1] at h
    refine lv_aload_n hx hb dX6_load_54 rfl (lv_at hl 0 rfl) ?_
    refine jm_get hx hb hts hown hK hP jm_f1 (by decide) jm_g1 dX6_load_55 ?_
    refine lv_bipush hx hb dX6_load_58 jx_kb8 ?_
    refine lv_bipush hx hb dX6_load_60 jx_kb9 ?_
    refine lv_aload_n hx hb dX6_load_62 rfl (lv_at hl 0 rfl) ?_
    obtain ⟨q6, eq6, h⟩ := jx_bi_some h
    refine jm_callI hx hb hml hown hts hlv hK hZ (jm_orders_met eq6) jm_orders_g jm_orders_d (As := []) (Nat.le_of_ble_eq_true rfl) (Nat.le_of_ble_eq_true rfl) hP hD hS hl.1 rfl rfl (lv_room (Nat.le_of_ble_eq_true rfl)) dX6_load_63 (fun H locs hP hD hS => ?_)
    refine lv_imul hx hb dX6_load_66 ?_
    refine lv_iadd hx hb dX6_load_67 ?_
    refine lv_iload_n hx hb dX6_load_68 rfl (lv_at hl 2 rfl) ?_
    refine lv_iadd hx hb dX6_load_69 ?_
    refine lv_aload_n hx hb dX6_load_70 rfl (lv_at hl 0 rfl) ?_
    refine jm_get hx hb hts hown hK hP jm_f11 (by decide) jm_g11 dX6_load_71 ?_
    refine lv_iload_n hx hb dX6_load_74 rfl (lv_at hl 2 rfl) ?_
    obtain ⟨j7, ej7, bj7, h⟩ := jx_ga_some h
    refine jm_iald hx hb hK hP jm_a11 ej7 bj7 dX6_load_75 ?_
    obtain ⟨j8, ej8, bj8, h⟩ := jx_ga_some h
    obtain ⟨S9, eS9, h⟩ := jx_nx_some h
    refine jm_iast hx hb hK hP hD hS jm_a1 (fun f => jm_u1 f) ej8 bj8 eS9 dX6_load_76 (fun H locs hP hD hS => ?_)
    obtain ⟨y10, ey10, h⟩ := jx_nx_some h
    refine lv_iinc (v := y10) (lv' := [(2, .int y10), (0, .ref (ad 0)), (1, .int x1)]) hx hb dX6_load_77 hl (k := 2) rfl (jx_inc jx_ki1 ey10) (Nat.le_of_ble_eq_true rfl) rfl (fun ls hl => ?_)
    refine lv_goto (tgt := 46) hx hb dX6_load_80 rfl ?_
    exact hr46 _ h _ _ _ hP hD hS (lv_sub hl [1, 2, 0] rfl)
theorem jm_load_h46_ok {out : Int32 × jm_S} (hX : jm_Ok p R s m args meth c A D ck ad sa cX6_load 3 (some .int) 11) (F : Nat) (n : Nat) (a : Int32 × Int32 × jm_S) (h : jm_load_h46 F n a = some out) : jm_J p l e R s m args below meth c A D ck ad 3 (jm_Qi below args s A D ck ad sa out) 46 [(0, .ref (ad 0)), (1, .int a.1), (2, .int a.2.1)] [] a.2.2 :=
  jx_loop_ind (J := fun a => jm_J p l e R s m args below meth c A D ck ad 3 (jm_Qi below args s A D ck ad sa out) 46 [(0, .ref (ad 0)), (1, .int a.1), (2, .int a.2.1)] [] a.2.2) (fun r hr a h => jm_load_L46_ok hX F hr a.1 a.2.1 a.2.2 h) n a h
theorem jm_load_b35_ok {out : Int32 × jm_S} (hX : jm_Ok p R s m args meth c A D ck ad sa cX6_load 3 (some .int) 11) (F : Nat) (x1 : Int32) (k0 : Int32) (S : jm_S) (h : jm_load_b35 F x1 k0 S = some out) : jm_J p l e R s m args below meth c A D ck ad 3 (jm_Qi below args s A D ck ad sa out) 35 [(0, .ref (ad 0)), (1, .int x1)] [.int k0, .ref (ad 0)] S := by
  intro H locs ls hP hD hS hl
  have hX0 := hX
  obtain ⟨hx, hb, hml, hown, hts, hlk, hr, hlv, hK, hZ⟩ := hX0
  unfold jm_load_b35 at h
  refine lv_iconst hx hb dX6_load_35 jx_ki1 ?_
  obtain ⟨q1, eq1, h⟩ := jx_bi_some h
  refine jm_callI hx hb hml hown hts hlv hK hZ (jm_throwsIf_met eq1) jm_throwsIf_g jm_throwsIf_d (As := [.int k0, .int (nI 1)]) (Nat.le_of_ble_eq_true rfl) (Nat.le_of_ble_eq_true rfl) hP hD hS hl.1 rfl rfl (lv_room (Nat.le_of_ble_eq_true rfl)) dX6_load_36 (fun H locs hP hD hS => ?_)
  refine lv_if_eq (tgt := 44) hx hb dX6_load_39 rfl (fun c2 => ?_) (fun c2 => ?_)
  · rw [if_pos c2] at h
    refine lv_iconst hx hb dX6_load_44 jx_ki0 ?_
    obtain ⟨y3, ey3, h⟩ := jx_nx_some h
    refine jx_topi ey3 ?_
    refine lv_istore_n (lv' := [(2, .int y3), (0, .ref (ad 0)), (1, .int x1)]) hx hb dX6_load_45 rfl hl (Nat.le_of_ble_eq_true rfl) rfl (fun ls hl => ?_)
    exact jm_load_h46_ok hX F F _ h _ _ _ hP hD hS (lv_sub hl [1, 2, 0] rfl)
  · rw [if_neg c2] at h
    refine lv_iconst hx hb dX6_load_42 jx_ki0 ?_
    exact jm_iret hx hb hr hlk hK hZ hP hD hS h dX6_load_43
theorem jm_load_b22_ok {out : Int32 × jm_S} (hX : jm_Ok p R s m args meth c A D ck ad sa cX6_load 3 (some .int) 11) (F : Nat) (x1 : Int32) (k0 : Int32) (S : jm_S) (h : jm_load_b22 F x1 k0 S = some out) : jm_J p l e R s m args below meth c A D ck ad 3 (jm_Qi below args s A D ck ad sa out) 22 [(0, .ref (ad 0)), (1, .int x1)] [.int k0, .ref (ad 0)] S := by
  intro H locs ls hP hD hS hl
  have hX0 := hX
  obtain ⟨hx, hb, hml, hown, hts, hlk, hr, hlv, hK, hZ⟩ := hX0
  unfold jm_load_b22 at h
  obtain ⟨S1, eS1, h⟩ := jx_nx_some h
  refine jm_put hx hb hts hown hK hP hD hS eS1 jm_f9 (by decide) jm_n9 jm_d9 jm_p9 dX6_load_22 (fun H locs hP hD hS => ?_)
  refine lv_aload_n hx hb dX6_load_25 rfl (lv_at hl 0 rfl) ?_
  refine lv_iload_n hx hb dX6_load_26 rfl (lv_at hl 1 rfl) ?_
  refine lv_if_ge (tgt := 34) hx hb dX6_load_27 rfl (fun c2 => ?_) (fun c2 => ?_)
  · rw [if_pos c2] at h
    refine lv_iconst hx hb dX6_load_34 jx_ki0 ?_
    exact jm_load_b35_ok hX F _ _ _ h _ _ _ hP hD hS hl
  · rw [if_neg c2] at h
    refine lv_iconst hx hb dX6_load_30 jx_ki1 ?_
    refine lv_goto (tgt := 35) hx hb dX6_load_31 rfl ?_
    exact jm_load_b35_ok hX F _ _ _ h _ _ _ hP hD hS hl
theorem jm_load_ok {out : Int32 × jm_S} (hX : jm_Ok p R s m args meth c A D ck ad sa cX6_load 3 (some .int) 11) (F : Nat)  (S : jm_S) (h : jm_load F  S = some out) : jm_J p l e R s m args below meth c A D ck ad 3 (jm_Qi below args s A D ck ad sa out) 0 [(0, .ref (ad 0))] [] S := by
  intro H locs ls hP hD hS hl
  have hX0 := hX
  obtain ⟨hx, hb, hml, hown, hts, hlk, hr, hlv, hK, hZ⟩ := hX0
  unfold jm_load at h
  refine lv_aload_n hx hb dX6_load_0 rfl (lv_at hl 0 rfl) ?_
  obtain ⟨q1, eq1, h⟩ := jx_bi_some h
  refine jm_callV hx hb hml hown hts hlv hK hZ (jm_uses_met eq1) jm_uses_g jm_uses_d (As := []) (Nat.le_of_ble_eq_true rfl) (Nat.le_of_ble_eq_true rfl) hP hD hS hl.1 rfl rfl (lv_room (Nat.le_of_ble_eq_true rfl)) dX6_load_1 (fun H locs hP hD hS => ?_)
  refine lv_aload_n hx hb dX6_load_4 rfl (lv_at hl 0 rfl) ?_
  obtain ⟨q2, eq2, h⟩ := jx_bi_some h
  refine jm_callI hx hb hml hown hts hlv hK hZ (jm_readAll_met eq2) jm_readAll_g jm_readAll_d (As := []) (Nat.le_of_ble_eq_true rfl) (Nat.le_of_ble_eq_true rfl) hP hD hS hl.1 rfl rfl (lv_room (Nat.le_of_ble_eq_true rfl)) dX6_load_5 (fun H locs hP hD hS => ?_)
  obtain ⟨y3, ey3, h⟩ := jx_nx_some h
  refine jx_topi ey3 ?_
  refine lv_istore_n (lv' := [(1, .int y3), (0, .ref (ad 0))]) hx hb dX6_load_8 rfl hl (Nat.le_of_ble_eq_true rfl) rfl (fun ls hl => ?_)
  refine lv_aload_n hx hb dX6_load_9 rfl (lv_at hl 1 rfl) ?_
  refine lv_iload_n hx hb dX6_load_10 rfl (lv_at hl 0 rfl) ?_
  refine lv_if_ge (tgt := 21) hx hb dX6_load_11 rfl (fun c4 => ?_) (fun c4 => ?_)
  · rw [if_pos c4] at h
    refine lv_iconst hx hb dX6_load_21 jx_kim1 ?_
    exact jm_load_b22_ok hX F _ _ _ h _ _ _ hP hD hS (lv_sub hl [1, 0] rfl)
  · rw [if_neg c4] at h
    refine lv_aload_n hx hb dX6_load_14 rfl (lv_at hl 1 rfl) ?_
    refine jm_get hx hb hts hown hK hP jm_f8 (by decide) jm_g8 dX6_load_15 ?_
    refine lv_goto (tgt := 22) hx hb dX6_load_18 rfl ?_
    exact jm_load_b22_ok hX F _ _ _ h _ _ _ hP hD hS (lv_sub hl [1, 0] rfl)
theorem jm_load_met {l : Launch} {D : va_G} {ck : Nat → ClassId} {ad sa : Nat → Nat} {A : Nat → Prop} {F : Nat}  {S : jm_S} {out : Int32 × jm_S} (h : jm_load F  S = some out) : jm_Mi l D ck ad sa A yX6_load cX6_load 3 (some .int) 11 [] S out :=
  jm_Mi_of ⟨by decide, rfl, Nat.le_of_ble_eq_true rfl⟩ (fun hX => jm_load_ok hX F  S h)
theorem jm_noOrder_d : yX6_noOrder.cls = RX6 ∧ yX6_noOrder.cls ≠ "java/lang/invoke/MethodHandle" ∧ yX6_noOrder.cls ≠ "java/lang/invoke/VarHandle" ∧ (parseMethodDescriptor yX6_noOrder.desc).map (fun d => d.parameters.length) = some 1 := by decide +kernel
theorem jm_noOrder_g : GoodIn lw_all (wsV RX6 234 RX6 yX6_noOrder (ws_ yX6_noOrder cX6_noOrder 2 (some .boolean))) := lw_V q1812 q1814 qs54 q110 q1815
theorem jm_noOrder_ok {out : Int32 × jm_S} (hX : jm_Ok p R s m args meth c A D ck ad sa cX6_noOrder 2 (some .boolean) 1) (F : Nat) (x1 : Int32) (S : jm_S) (h : jm_noOrder F x1 S = some out) : jm_J p l e R s m args below meth c A D ck ad 2 (jm_Qi below args s A D ck ad sa out) 0 [(0, .ref (ad 0)), (1, .int x1)] [] S := by
  intro H locs ls hP hD hS hl
  have hX0 := hX
  obtain ⟨hx, hb, hml, hown, hts, hlk, hr, hlv, hK, hZ⟩ := hX0
  unfold jm_noOrder at h
  refine lv_iload_n hx hb dX6_noOrder_0 rfl (lv_at hl 1 rfl) ?_
  refine lv_iconst hx hb dX6_noOrder_1 jx_ki0 ?_
  refine lv_aload_n hx hb dX6_noOrder_2 rfl (lv_at hl 0 rfl) ?_
  obtain ⟨q1, eq1, h⟩ := jx_bi_some h
  refine jm_callI hx hb hml hown hts hlv hK hZ (jm_orders_met eq1) jm_orders_g jm_orders_d (As := []) (Nat.le_of_ble_eq_true rfl) (Nat.le_of_ble_eq_true rfl) hP hD hS hl.1 rfl rfl (lv_room (Nat.le_of_ble_eq_true rfl)) dX6_noOrder_3 (fun H locs hP hD hS => ?_)
  refine lv_iconst hx hb dX6_noOrder_6 jx_ki1 ?_
  refine lv_isub hx hb dX6_noOrder_7 ?_
  obtain ⟨q2, eq2, h⟩ := jx_bi_some h
  refine jx_callSi hx hb hml hown hts (jm_in_met eq2) jm_in_g_X6 jm_in_d (As := [.int x1, .int (nI 0), .int (q1.1 - (nI 1))]) (by rw [hlv]; decide) hl.1 rfl rfl (lv_room (Nat.le_of_ble_eq_true rfl)) dX6_noOrder_8 (by rw [hlv]; exact ⟨Nat.zero_le _, Nat.zero_le _⟩) ?_
  refine lv_if_ne (tgt := 18) hx hb dX6_noOrder_11 rfl (fun c3 => ?_) (fun c3 => ?_)
  · rw [if_neg c3] at h
    refine lv_iconst hx hb dX6_noOrder_18 jx_ki0 ?_
    exact jm_zret hx hb hr hlk hK hZ hP hD hS jx_nz0 h dX6_noOrder_19
  · rw [if_pos c3] at h
    refine lv_iconst hx hb dX6_noOrder_14 jx_ki1 ?_
    refine lv_goto (tgt := 19) hx hb dX6_noOrder_15 rfl ?_
    exact jm_zret hx hb hr hlk hK hZ hP hD hS jx_nz1 h dX6_noOrder_19
theorem jm_noOrder_met {l : Launch} {D : va_G} {ck : Nat → ClassId} {ad sa : Nat → Nat} {A : Nat → Prop} {F : Nat} {x1 : Int32} {S : jm_S} {out : Int32 × jm_S} (h : jm_noOrder F x1 S = some out) : jm_Mi l D ck ad sa A yX6_noOrder cX6_noOrder 2 (some .boolean) 1 [.int x1] S out :=
  jm_Mi_of ⟨by decide, rfl, Nat.le_of_ble_eq_true rfl⟩ (fun hX => jm_noOrder_ok hX F x1 S h)
theorem jm_of_d : yX6_of.cls = RX6 ∧ yX6_of.cls ≠ "java/lang/invoke/MethodHandle" ∧ yX6_of.cls ≠ "java/lang/invoke/VarHandle" ∧ (parseMethodDescriptor yX6_of.desc).map (fun d => d.parameters.length) = some 2 := by decide +kernel
theorem jm_of_g : GoodIn lw_all (wsV RX6 108 RX6 yX6_of (ws_ yX6_of cX6_of 3 (some .int))) := lw_V q1819 q1821 qs55 q110 q1822
theorem jm_of_ok {out : Int32 × jm_S} (hX : jm_Ok p R s m args meth c A D ck ad sa cX6_of 3 (some .int) 0) (F : Nat) (x1 : Int32) (x2 : Int32) (S : jm_S) (h : jm_of F x1 x2 S = some out) : jm_J p l e R s m args below meth c A D ck ad 3 (jm_Qi below args s A D ck ad sa out) 0 [(0, .ref (ad 0)), (1, .int x1), (2, .int x2)] [] S := by
  intro H locs ls hP hD hS hl
  have hX0 := hX
  obtain ⟨hx, hb, hml, hown, hts, hlk, hr, hlv, hK, hZ⟩ := hX0
  unfold jm_of at h
  refine lv_aload_n hx hb dX6_of_0 rfl (lv_at hl 0 rfl) ?_
  refine jm_get hx hb hts hown hK hP jm_f1 (by decide) jm_g1 dX6_of_1 ?_
  refine lv_bipush hx hb dX6_of_4 jx_kb8 ?_
  refine lv_bipush hx hb dX6_of_6 jx_kb9 ?_
  refine lv_iload_n hx hb dX6_of_8 rfl (lv_at hl 1 rfl) ?_
  refine lv_imul hx hb dX6_of_9 ?_
  refine lv_iadd hx hb dX6_of_10 ?_
  refine lv_iload_n hx hb dX6_of_11 rfl (lv_at hl 2 rfl) ?_
  refine lv_iadd hx hb dX6_of_12 ?_
  obtain ⟨j1, ej1, bj1, h⟩ := jx_ga_some h
  refine jm_iald hx hb hK hP jm_a1 ej1 bj1 dX6_of_13 ?_
  exact jm_iret hx hb hr hlk hK hZ hP hD hS h dX6_of_14
theorem jm_of_met {l : Launch} {D : va_G} {ck : Nat → ClassId} {ad sa : Nat → Nat} {A : Nat → Prop} {F : Nat} {x1 : Int32} {x2 : Int32} {S : jm_S} {out : Int32 × jm_S} (h : jm_of F x1 x2 S = some out) : jm_Mi l D ck ad sa A yX6_of cX6_of 3 (some .int) 0 [.int x1, .int x2] S out :=
  jm_Mi_of ⟨by decide, rfl, Nat.le_of_ble_eq_true rfl⟩ (fun hX => jm_of_ok hX F x1 x2 S h)
theorem jm_order_d : yX6_order.cls = RX6 ∧ yX6_order.cls ≠ "java/lang/invoke/MethodHandle" ∧ yX6_order.cls ≠ "java/lang/invoke/VarHandle" ∧ (parseMethodDescriptor yX6_order.desc).map (fun d => d.parameters.length) = some 2 := by decide +kernel
theorem jm_order_b33_ok {out : Int32 × jm_S} (hX : jm_Ok p R s m args meth c A D ck ad sa cX6_order 3 (some .int) 2) (F : Nat) (x1 : Int32) (x2 : Int32) (k0 : Int32) (S : jm_S) (h : jm_order_b33 F x1 x2 k0 S = some out) : jm_J p l e R s m args below meth c A D ck ad 3 (jm_Qi below args s A D ck ad sa out) 33 [(0, .ref (ad 0)), (1, .int x1), (2, .int x2)] [.int k0, .ref (ad 0)] S := by
  intro H locs ls hP hD hS hl
  have hX0 := hX
  obtain ⟨hx, hb, hml, hown, hts, hlk, hr, hlv, hK, hZ⟩ := hX0
  unfold jm_order_b33 at h
  refine lv_iconst hx hb dX6_order_33 jx_ki2 ?_
  obtain ⟨q1, eq1, h⟩ := jx_bi_some h
  refine jm_callI hx hb hml hown hts hlv hK hZ (jm_throwsIf_met eq1) jm_throwsIf_g jm_throwsIf_d (As := [.int k0, .int (nI 2)]) (Nat.le_of_ble_eq_true rfl) (Nat.le_of_ble_eq_true rfl) hP hD hS hl.1 rfl rfl (lv_room (Nat.le_of_ble_eq_true rfl)) dX6_order_34 (fun H locs hP hD hS => ?_)
  refine lv_if_eq (tgt := 42) hx hb dX6_order_37 rfl (fun c2 => ?_) (fun c2 => ?_)
  · rw [if_pos c2] at h
    refine lv_aload_n hx hb dX6_order_42 rfl (lv_at hl 0 rfl) ?_
    refine lv_iload_n hx hb dX6_order_43 rfl (lv_at hl 1 rfl) ?_
    refine lv_iload_n hx hb dX6_order_44 rfl (lv_at hl 2 rfl) ?_
    obtain ⟨q3, eq3, h⟩ := jx_bi_some h
    refine jm_callI hx hb hml hown hts hlv hK hZ (jm_of_met eq3) jm_of_g jm_of_d (As := [.int x1, .int x2]) (Nat.le_of_ble_eq_true rfl) (Nat.le_of_ble_eq_true rfl) hP hD hS hl.1 rfl rfl (lv_room (Nat.le_of_ble_eq_true rfl)) dX6_order_45 (fun H locs hP hD hS => ?_)
    exact jm_iret hx hb hr hlk hK hZ hP hD hS h dX6_order_48
  · rw [if_neg c2] at h
    refine lv_iconst hx hb dX6_order_40 jx_ki0 ?_
    exact jm_iret hx hb hr hlk hK hZ hP hD hS h dX6_order_41
theorem jm_order_ok {out : Int32 × jm_S} (hX : jm_Ok p R s m args meth c A D ck ad sa cX6_order 3 (some .int) 2) (F : Nat) (x1 : Int32) (x2 : Int32) (S : jm_S) (h : jm_order F x1 x2 S = some out) : jm_J p l e R s m args below meth c A D ck ad 3 (jm_Qi below args s A D ck ad sa out) 0 [(0, .ref (ad 0)), (1, .int x1), (2, .int x2)] [] S := by
  intro H locs ls hP hD hS hl
  have hX0 := hX
  obtain ⟨hx, hb, hml, hown, hts, hlk, hr, hlv, hK, hZ⟩ := hX0
  unfold jm_order at h
  refine lv_aload_n hx hb dX6_order_0 rfl (lv_at hl 0 rfl) ?_
  refine lv_iconst hx hb dX6_order_1 jx_ki0 ?_
  obtain ⟨S1, eS1, h⟩ := jx_nx_some h
  refine jm_put hx hb hts hown hK hP hD hS eS1 jm_f0 (by decide) jm_n0 jm_d0 jm_p0 dX6_order_2 (fun H locs hP hD hS => ?_)
  refine lv_aload_n hx hb dX6_order_5 rfl (lv_at hl 0 rfl) ?_
  refine lv_aload_n hx hb dX6_order_6 rfl (lv_at hl 0 rfl) ?_
  refine lv_iload_n hx hb dX6_order_7 rfl (lv_at hl 1 rfl) ?_
  obtain ⟨q2, eq2, h⟩ := jx_bi_some h
  refine jm_callI hx hb hml hown hts hlv hK hZ (jm_noOrder_met eq2) jm_noOrder_g jm_noOrder_d (As := [.int x1]) (Nat.le_of_ble_eq_true rfl) (Nat.le_of_ble_eq_true rfl) hP hD hS hl.1 rfl rfl (lv_room (Nat.le_of_ble_eq_true rfl)) dX6_order_8 (fun H locs hP hD hS => ?_)
  refine lv_iconst hx hb dX6_order_11 jx_ki1 ?_
  obtain ⟨q3, eq3, h⟩ := jx_bi_some h
  refine jm_callI hx hb hml hown hts hlv hK hZ (jm_throwsIf_met eq3) jm_throwsIf_g jm_throwsIf_d (As := [.int q2.1, .int (nI 1)]) (Nat.le_of_ble_eq_true rfl) (Nat.le_of_ble_eq_true rfl) hP hD hS hl.1 rfl rfl (lv_room (Nat.le_of_ble_eq_true rfl)) dX6_order_12 (fun H locs hP hD hS => ?_)
  refine lv_if_ne (tgt := 40) hx hb dX6_order_15 rfl (fun c4 => ?_) (fun c4 => ?_)
  · rw [if_neg c4] at h
    refine lv_iconst hx hb dX6_order_40 jx_ki0 ?_
    exact jm_iret hx hb hr hlk hK hZ hP hD hS h dX6_order_41
  · rw [if_pos c4] at h
    refine lv_aload_n hx hb dX6_order_18 rfl (lv_at hl 0 rfl) ?_
    refine lv_iload_n hx hb dX6_order_19 rfl (lv_at hl 2 rfl) ?_
    refine lv_iconst hx hb dX6_order_20 jx_ki0 ?_
    refine lv_iconst hx hb dX6_order_21 jx_ki4 ?_
    obtain ⟨q5, eq5, h⟩ := jx_bi_some h
    refine jx_callSi hx hb hml hown hts (jm_in_met eq5) jm_in_g_X6 jm_in_d (As := [.int x2, .int (nI 0), .int (nI 4)]) (by rw [hlv]; decide) hl.1 rfl rfl (lv_room (Nat.le_of_ble_eq_true rfl)) dX6_order_22 (by rw [hlv]; exact ⟨Nat.zero_le _, Nat.zero_le _⟩) ?_
    refine lv_if_ne (tgt := 32) hx hb dX6_order_25 rfl (fun c6 => ?_) (fun c6 => ?_)
    · rw [if_neg c6] at h
      refine lv_iconst hx hb dX6_order_32 jx_ki0 ?_
      exact jm_order_b33_ok hX F _ _ _ _ h _ _ _ hP hD hS hl
    · rw [if_pos c6] at h
      refine lv_iconst hx hb dX6_order_28 jx_ki1 ?_
      refine lv_goto (tgt := 33) hx hb dX6_order_29 rfl ?_
      exact jm_order_b33_ok hX F _ _ _ _ h _ _ _ hP hD hS hl
theorem jm_order_met {l : Launch} {D : va_G} {ck : Nat → ClassId} {ad sa : Nat → Nat} {A : Nat → Prop} {F : Nat} {x1 : Int32} {x2 : Int32} {S : jm_S} {out : Int32 × jm_S} (h : jm_order F x1 x2 S = some out) : jm_Mi l D ck ad sa A yX6_order cX6_order 3 (some .int) 2 [.int x1, .int x2] S out :=
  jm_Mi_of ⟨by decide, rfl, Nat.le_of_ble_eq_true rfl⟩ (fun hX => jm_order_ok hX F x1 x2 S h)
theorem jm_wordOf_d : yX6_wordOf.cls = RX6 ∧ yX6_wordOf.cls ≠ "java/lang/invoke/MethodHandle" ∧ yX6_wordOf.cls ≠ "java/lang/invoke/VarHandle" ∧ (parseMethodDescriptor yX6_wordOf.desc).map (fun d => d.parameters.length) = some 1 := by decide +kernel
theorem jm_wordOf_g : GoodIn lw_all (wsV RX6 120 RX6 yX6_wordOf (ws_ yX6_wordOf cX6_wordOf 2 (some .int))) := lw_V q1831 q1833 qs57 q110 q1834
theorem jm_wordOf_ok {out : Int32 × jm_S} (hX : jm_Ok p R s m args meth c A D ck ad sa cX6_wordOf 2 (some .int) 1) (F : Nat) (x1 : Int32) (S : jm_S) (h : jm_wordOf F x1 S = some out) : jm_J p l e R s m args below meth c A D ck ad 2 (jm_Qi below args s A D ck ad sa out) 0 [(0, .ref (ad 0)), (1, .int x1)] [] S := by
  intro H locs ls hP hD hS hl
  have hX0 := hX
  obtain ⟨hx, hb, hml, hown, hts, hlk, hr, hlv, hK, hZ⟩ := hX0
  unfold jm_wordOf at h
  refine lv_aload_n hx hb dX6_wordOf_0 rfl (lv_at hl 0 rfl) ?_
  refine lv_iload_n hx hb dX6_wordOf_1 rfl (lv_at hl 1 rfl) ?_
  refine lv_iconst hx hb dX6_wordOf_2 jx_ki0 ?_
  obtain ⟨q1, eq1, h⟩ := jx_bi_some h
  refine jm_callI hx hb hml hown hts hlv hK hZ (jm_of_met eq1) jm_of_g jm_of_d (As := [.int x1, .int (nI 0)]) (Nat.le_of_ble_eq_true rfl) (Nat.le_of_ble_eq_true rfl) hP hD hS hl.1 rfl rfl (lv_room (Nat.le_of_ble_eq_true rfl)) dX6_wordOf_3 (fun H locs hP hD hS => ?_)
  exact jm_iret hx hb hr hlk hK hZ hP hD hS h dX6_wordOf_6
theorem jm_wordOf_met {l : Launch} {D : va_G} {ck : Nat → ClassId} {ad sa : Nat → Nat} {A : Nat → Prop} {F : Nat} {x1 : Int32} {S : jm_S} {out : Int32 × jm_S} (h : jm_wordOf F x1 S = some out) : jm_Mi l D ck ad sa A yX6_wordOf cX6_wordOf 2 (some .int) 1 [.int x1] S out :=
  jm_Mi_of ⟨by decide, rfl, Nat.le_of_ble_eq_true rfl⟩ (fun hX => jm_wordOf_ok hX F x1 S h)
theorem jm_isJump_d : yX6_isJump.cls = RX6 ∧ yX6_isJump.cls ≠ "java/lang/invoke/MethodHandle" ∧ yX6_isJump.cls ≠ "java/lang/invoke/VarHandle" ∧ (parseMethodDescriptor yX6_isJump.desc).map (fun d => d.parameters.length) = some 1 := by decide +kernel
theorem jm_isJump_g : GoodIn lw_all (wsV RX6 237 RX6 yX6_isJump (ws_ yX6_isJump cX6_isJump 2 (some .boolean))) := lw_V q1827 q1829 qs56 q110 q1830
theorem jm_isJump_ok {out : Int32 × jm_S} (hX : jm_Ok p R s m args meth c A D ck ad sa cX6_isJump 2 (some .boolean) 2) (F : Nat) (x1 : Int32) (S : jm_S) (h : jm_isJump F x1 S = some out) : jm_J p l e R s m args below meth c A D ck ad 2 (jm_Qi below args s A D ck ad sa out) 0 [(0, .ref (ad 0)), (1, .int x1)] [] S := by
  intro H locs ls hP hD hS hl
  have hX0 := hX
  obtain ⟨hx, hb, hml, hown, hts, hlk, hr, hlv, hK, hZ⟩ := hX0
  unfold jm_isJump at h
  refine lv_aload_n hx hb dX6_isJump_0 rfl (lv_at hl 0 rfl) ?_
  refine lv_iload_n hx hb dX6_isJump_1 rfl (lv_at hl 1 rfl) ?_
  obtain ⟨q1, eq1, h⟩ := jx_bi_some h
  refine jm_callI hx hb hml hown hts hlv hK hZ (jm_wordOf_met eq1) jm_wordOf_g jm_wordOf_d (As := [.int x1]) (Nat.le_of_ble_eq_true rfl) (Nat.le_of_ble_eq_true rfl) hP hD hS hl.1 rfl rfl (lv_room (Nat.le_of_ble_eq_true rfl)) dX6_isJump_2 (fun H locs hP hD hS => ?_)
  refine lv_iconst hx hb dX6_isJump_5 jx_ki4 ?_
  refine lv_icmp_eq (tgt := 29) hx hb dX6_isJump_6 rfl (fun c2 => ?_) (fun c2 => ?_)
  · rw [if_pos c2] at h
    refine lv_iconst hx hb dX6_isJump_29 jx_ki1 ?_
    refine lv_goto (tgt := 34) hx hb dX6_isJump_30 rfl ?_
    exact jm_zret hx hb hr hlk hK hZ hP hD hS jx_nz1 h dX6_isJump_34
  · rw [if_neg c2] at h
    refine lv_aload_n hx hb dX6_isJump_9 rfl (lv_at hl 0 rfl) ?_
    refine lv_iload_n hx hb dX6_isJump_10 rfl (lv_at hl 1 rfl) ?_
    obtain ⟨q3, eq3, h⟩ := jx_bi_some h
    refine jm_callI hx hb hml hown hts hlv hK hZ (jm_wordOf_met eq3) jm_wordOf_g jm_wordOf_d (As := [.int x1]) (Nat.le_of_ble_eq_true rfl) (Nat.le_of_ble_eq_true rfl) hP hD hS hl.1 rfl rfl (lv_room (Nat.le_of_ble_eq_true rfl)) dX6_isJump_11 (fun H locs hP hD hS => ?_)
    refine lv_bipush hx hb dX6_isJump_14 jx_kb6 ?_
    refine lv_icmp_eq (tgt := 29) hx hb dX6_isJump_16 rfl (fun c4 => ?_) (fun c4 => ?_)
    · rw [if_pos c4] at h
      refine lv_iconst hx hb dX6_isJump_29 jx_ki1 ?_
      refine lv_goto (tgt := 34) hx hb dX6_isJump_30 rfl ?_
      exact jm_zret hx hb hr hlk hK hZ hP hD hS jx_nz1 h dX6_isJump_34
    · rw [if_neg c4] at h
      refine lv_aload_n hx hb dX6_isJump_19 rfl (lv_at hl 0 rfl) ?_
      refine lv_iload_n hx hb dX6_isJump_20 rfl (lv_at hl 1 rfl) ?_
      obtain ⟨q5, eq5, h⟩ := jx_bi_some h
      refine jm_callI hx hb hml hown hts hlv hK hZ (jm_wordOf_met eq5) jm_wordOf_g jm_wordOf_d (As := [.int x1]) (Nat.le_of_ble_eq_true rfl) (Nat.le_of_ble_eq_true rfl) hP hD hS hl.1 rfl rfl (lv_room (Nat.le_of_ble_eq_true rfl)) dX6_isJump_21 (fun H locs hP hD hS => ?_)
      refine lv_bipush hx hb dX6_isJump_24 jx_kb7 ?_
      refine lv_icmp_ne (tgt := 33) hx hb dX6_isJump_26 rfl (fun c6 => ?_) (fun c6 => ?_)
      · rw [if_neg c6] at h
        refine lv_iconst hx hb dX6_isJump_33 jx_ki0 ?_
        exact jm_zret hx hb hr hlk hK hZ hP hD hS jx_nz0 h dX6_isJump_34
      · rw [if_pos c6] at h
        refine lv_iconst hx hb dX6_isJump_29 jx_ki1 ?_
        refine lv_goto (tgt := 34) hx hb dX6_isJump_30 rfl ?_
        exact jm_zret hx hb hr hlk hK hZ hP hD hS jx_nz1 h dX6_isJump_34
theorem jm_isJump_met {l : Launch} {D : va_G} {ck : Nat → ClassId} {ad sa : Nat → Nat} {A : Nat → Prop} {F : Nat} {x1 : Int32} {S : jm_S} {out : Int32 × jm_S} (h : jm_isJump F x1 S = some out) : jm_Mi l D ck ad sa A yX6_isJump cX6_isJump 2 (some .boolean) 2 [.int x1] S out :=
  jm_Mi_of ⟨by decide, rfl, Nat.le_of_ble_eq_true rfl⟩ (fun hX => jm_isJump_ok hX F x1 S h)
theorem jm_grade_d : yX6_grade.cls = RX6 ∧ yX6_grade.cls ≠ "java/lang/invoke/MethodHandle" ∧ yX6_grade.cls ≠ "java/lang/invoke/VarHandle" ∧ (parseMethodDescriptor yX6_grade.desc).map (fun d => d.parameters.length) = some 2 := by decide +kernel
theorem jm_grade_b54_ok {out : Int32 × jm_S} (hX : jm_Ok p R s m args meth c A D ck ad sa cX6_grade 3 (some .boolean) 3) (F : Nat) (x1 : Int32) (x2 : Int32) (k0 : Int32) (S : jm_S) (h : jm_grade_b54 F x1 x2 k0 S = some out) : jm_J p l e R s m args below meth c A D ck ad 3 (jm_Qi below args s A D ck ad sa out) 54 [(0, .ref (ad 0)), (1, .int x1), (2, .int x2)] [.int k0, .ref (ad 0)] S := by
  intro H locs ls hP hD hS hl
  have hX0 := hX
  obtain ⟨hx, hb, hml, hown, hts, hlk, hr, hlv, hK, hZ⟩ := hX0
  unfold jm_grade_b54 at h
  refine lv_iconst hx hb dX6_grade_54 jx_ki3 ?_
  obtain ⟨q1, eq1, h⟩ := jx_bi_some h
  refine jm_callI hx hb hml hown hts hlv hK hZ (jm_throwsIf_met eq1) jm_throwsIf_g jm_throwsIf_d (As := [.int k0, .int (nI 3)]) (Nat.le_of_ble_eq_true rfl) (Nat.le_of_ble_eq_true rfl) hP hD hS hl.1 rfl rfl (lv_room (Nat.le_of_ble_eq_true rfl)) dX6_grade_55 (fun H locs hP hD hS => ?_)
  refine lv_if_eq (tgt := 63) hx hb dX6_grade_58 rfl (fun c2 => ?_) (fun c2 => ?_)
  · rw [if_pos c2] at h
    refine lv_aload_n hx hb dX6_grade_63 rfl (lv_at hl 0 rfl) ?_
    refine lv_iload_n hx hb dX6_grade_64 rfl (lv_at hl 1 rfl) ?_
    refine lv_iconst hx hb dX6_grade_65 jx_ki2 ?_
    obtain ⟨q3, eq3, h⟩ := jx_bi_some h
    refine jm_callI hx hb hml hown hts hlv hK hZ (jm_of_met eq3) jm_of_g jm_of_d (As := [.int x1, .int (nI 2)]) (Nat.le_of_ble_eq_true rfl) (Nat.le_of_ble_eq_true rfl) hP hD hS hl.1 rfl rfl (lv_room (Nat.le_of_ble_eq_true rfl)) dX6_grade_66 (fun H locs hP hD hS => ?_)
    refine lv_iload_n hx hb dX6_grade_69 rfl (lv_at hl 2 rfl) ?_
    refine lv_icmp_ne (tgt := 75) hx hb dX6_grade_70 rfl (fun c4 => ?_) (fun c4 => ?_)
    · rw [if_neg c4] at h
      refine lv_aload_n hx hb dX6_grade_75 rfl (lv_at hl 0 rfl) ?_
      refine jm_get hx hb hts hown hK hP jm_f1 (by decide) jm_g1 dX6_grade_76 ?_
      refine lv_bipush hx hb dX6_grade_79 jx_kb8 ?_
      refine lv_bipush hx hb dX6_grade_81 jx_kb9 ?_
      refine lv_iload_n hx hb dX6_grade_83 rfl (lv_at hl 1 rfl) ?_
      refine lv_imul hx hb dX6_grade_84 ?_
      refine lv_iadd hx hb dX6_grade_85 ?_
      refine lv_iconst hx hb dX6_grade_86 jx_ki2 ?_
      refine lv_iadd hx hb dX6_grade_87 ?_
      refine lv_iload_n hx hb dX6_grade_88 rfl (lv_at hl 2 rfl) ?_
      obtain ⟨j5, ej5, bj5, h⟩ := jx_ga_some h
      obtain ⟨S6, eS6, h⟩ := jx_nx_some h
      refine jm_iast hx hb hK hP hD hS jm_a1 (fun f => jm_u1 f) ej5 bj5 eS6 dX6_grade_89 (fun H locs hP hD hS => ?_)
      refine lv_iconst hx hb dX6_grade_90 jx_ki1 ?_
      exact jm_zret hx hb hr hlk hK hZ hP hD hS jx_nz1 h dX6_grade_91
    · rw [if_pos c4] at h
      refine lv_iconst hx hb dX6_grade_73 jx_ki0 ?_
      exact jm_zret hx hb hr hlk hK hZ hP hD hS jx_nz0 h dX6_grade_74
  · rw [if_neg c2] at h
    refine lv_iconst hx hb dX6_grade_61 jx_ki0 ?_
    exact jm_zret hx hb hr hlk hK hZ hP hD hS jx_nz0 h dX6_grade_62
theorem jm_grade_b32_ok {out : Int32 × jm_S} (hX : jm_Ok p R s m args meth c A D ck ad sa cX6_grade 3 (some .boolean) 3) (F : Nat) (x1 : Int32) (x2 : Int32) (k0 : Int32) (S : jm_S) (h : jm_grade_b32 F x1 x2 k0 S = some out) : jm_J p l e R s m args below meth c A D ck ad 3 (jm_Qi below args s A D ck ad sa out) 32 [(0, .ref (ad 0)), (1, .int x1), (2, .int x2)] [.int k0, .ref (ad 0)] S := by
  intro H locs ls hP hD hS hl
  have hX0 := hX
  obtain ⟨hx, hb, hml, hown, hts, hlk, hr, hlv, hK, hZ⟩ := hX0
  unfold jm_grade_b32 at h
  refine lv_iconst hx hb dX6_grade_32 jx_ki2 ?_
  obtain ⟨q1, eq1, h⟩ := jx_bi_some h
  refine jm_callI hx hb hml hown hts hlv hK hZ (jm_throwsIf_met eq1) jm_throwsIf_g jm_throwsIf_d (As := [.int k0, .int (nI 2)]) (Nat.le_of_ble_eq_true rfl) (Nat.le_of_ble_eq_true rfl) hP hD hS hl.1 rfl rfl (lv_room (Nat.le_of_ble_eq_true rfl)) dX6_grade_33 (fun H locs hP hD hS => ?_)
  refine lv_if_ne (tgt := 61) hx hb dX6_grade_36 rfl (fun c2 => ?_) (fun c2 => ?_)
  · rw [if_neg c2] at h
    refine lv_iconst hx hb dX6_grade_61 jx_ki0 ?_
    exact jm_zret hx hb hr hlk hK hZ hP hD hS jx_nz0 h dX6_grade_62
  · rw [if_pos c2] at h
    refine lv_aload_n hx hb dX6_grade_39 rfl (lv_at hl 0 rfl) ?_
    refine lv_iload_n hx hb dX6_grade_40 rfl (lv_at hl 2 rfl) ?_
    refine lv_iconst hx hb dX6_grade_41 jx_ki0 ?_
    refine lv_iconst hx hb dX6_grade_42 jx_ki3 ?_
    obtain ⟨q3, eq3, h⟩ := jx_bi_some h
    refine jx_callSi hx hb hml hown hts (jm_in_met eq3) jm_in_g_X6 jm_in_d (As := [.int x2, .int (nI 0), .int (nI 3)]) (by rw [hlv]; decide) hl.1 rfl rfl (lv_room (Nat.le_of_ble_eq_true rfl)) dX6_grade_43 (by rw [hlv]; exact ⟨Nat.zero_le _, Nat.zero_le _⟩) ?_
    refine lv_if_ne (tgt := 53) hx hb dX6_grade_46 rfl (fun c4 => ?_) (fun c4 => ?_)
    · rw [if_neg c4] at h
      refine lv_iconst hx hb dX6_grade_53 jx_ki0 ?_
      exact jm_grade_b54_ok hX F _ _ _ _ h _ _ _ hP hD hS hl
    · rw [if_pos c4] at h
      refine lv_iconst hx hb dX6_grade_49 jx_ki1 ?_
      refine lv_goto (tgt := 54) hx hb dX6_grade_50 rfl ?_
      exact jm_grade_b54_ok hX F _ _ _ _ h _ _ _ hP hD hS hl
theorem jm_grade_ok {out : Int32 × jm_S} (hX : jm_Ok p R s m args meth c A D ck ad sa cX6_grade 3 (some .boolean) 3) (F : Nat) (x1 : Int32) (x2 : Int32) (S : jm_S) (h : jm_grade F x1 x2 S = some out) : jm_J p l e R s m args below meth c A D ck ad 3 (jm_Qi below args s A D ck ad sa out) 0 [(0, .ref (ad 0)), (1, .int x1), (2, .int x2)] [] S := by
  intro H locs ls hP hD hS hl
  have hX0 := hX
  obtain ⟨hx, hb, hml, hown, hts, hlk, hr, hlv, hK, hZ⟩ := hX0
  unfold jm_grade at h
  refine lv_aload_n hx hb dX6_grade_0 rfl (lv_at hl 0 rfl) ?_
  refine lv_iconst hx hb dX6_grade_1 jx_ki0 ?_
  obtain ⟨S1, eS1, h⟩ := jx_nx_some h
  refine jm_put hx hb hts hown hK hP hD hS eS1 jm_f0 (by decide) jm_n0 jm_d0 jm_p0 dX6_grade_2 (fun H locs hP hD hS => ?_)
  refine lv_aload_n hx hb dX6_grade_5 rfl (lv_at hl 0 rfl) ?_
  refine lv_aload_n hx hb dX6_grade_6 rfl (lv_at hl 0 rfl) ?_
  refine lv_iload_n hx hb dX6_grade_7 rfl (lv_at hl 1 rfl) ?_
  obtain ⟨q2, eq2, h⟩ := jx_bi_some h
  refine jm_callI hx hb hml hown hts hlv hK hZ (jm_noOrder_met eq2) jm_noOrder_g jm_noOrder_d (As := [.int x1]) (Nat.le_of_ble_eq_true rfl) (Nat.le_of_ble_eq_true rfl) hP hD hS hl.1 rfl rfl (lv_room (Nat.le_of_ble_eq_true rfl)) dX6_grade_8 (fun H locs hP hD hS => ?_)
  refine lv_iconst hx hb dX6_grade_11 jx_ki1 ?_
  obtain ⟨q3, eq3, h⟩ := jx_bi_some h
  refine jm_callI hx hb hml hown hts hlv hK hZ (jm_throwsIf_met eq3) jm_throwsIf_g jm_throwsIf_d (As := [.int q2.1, .int (nI 1)]) (Nat.le_of_ble_eq_true rfl) (Nat.le_of_ble_eq_true rfl) hP hD hS hl.1 rfl rfl (lv_room (Nat.le_of_ble_eq_true rfl)) dX6_grade_12 (fun H locs hP hD hS => ?_)
  refine lv_if_ne (tgt := 61) hx hb dX6_grade_15 rfl (fun c4 => ?_) (fun c4 => ?_)
  · rw [if_neg c4] at h
    refine lv_iconst hx hb dX6_grade_61 jx_ki0 ?_
    exact jm_zret hx hb hr hlk hK hZ hP hD hS jx_nz0 h dX6_grade_62
  · rw [if_pos c4] at h
    refine lv_aload_n hx hb dX6_grade_18 rfl (lv_at hl 0 rfl) ?_
    refine lv_aload_n hx hb dX6_grade_19 rfl (lv_at hl 0 rfl) ?_
    refine lv_iload_n hx hb dX6_grade_20 rfl (lv_at hl 1 rfl) ?_
    obtain ⟨q5, eq5, h⟩ := jx_bi_some h
    refine jm_callI hx hb hml hown hts hlv hK hZ (jm_isJump_met eq5) jm_isJump_g jm_isJump_d (As := [.int x1]) (Nat.le_of_ble_eq_true rfl) (Nat.le_of_ble_eq_true rfl) hP hD hS hl.1 rfl rfl (lv_room (Nat.le_of_ble_eq_true rfl)) dX6_grade_21 (fun H locs hP hD hS => ?_)
    refine lv_if_ne (tgt := 31) hx hb dX6_grade_24 rfl (fun c6 => ?_) (fun c6 => ?_)
    · rw [if_neg c6] at h
      refine lv_iconst hx hb dX6_grade_31 jx_ki0 ?_
      exact jm_grade_b32_ok hX F _ _ _ _ h _ _ _ hP hD hS hl
    · rw [if_pos c6] at h
      refine lv_iconst hx hb dX6_grade_27 jx_ki1 ?_
      refine lv_goto (tgt := 32) hx hb dX6_grade_28 rfl ?_
      exact jm_grade_b32_ok hX F _ _ _ _ h _ _ _ hP hD hS hl
theorem jm_grade_met {l : Launch} {D : va_G} {ck : Nat → ClassId} {ad sa : Nat → Nat} {A : Nat → Prop} {F : Nat} {x1 : Int32} {x2 : Int32} {S : jm_S} {out : Int32 × jm_S} (h : jm_grade F x1 x2 S = some out) : jm_Mi l D ck ad sa A yX6_grade cX6_grade 3 (some .boolean) 3 [.int x1, .int x2] S out :=
  jm_Mi_of ⟨by decide, rfl, Nat.le_of_ble_eq_true rfl⟩ (fun hX => jm_grade_ok hX F x1 x2 S h)
theorem jm_ticks_d : yX6_ticks.cls = RX6 ∧ yX6_ticks.cls ≠ "java/lang/invoke/MethodHandle" ∧ yX6_ticks.cls ≠ "java/lang/invoke/VarHandle" ∧ (parseMethodDescriptor yX6_ticks.desc).map (fun d => d.parameters.length) = some 2 := by decide +kernel
theorem jm_ticks_b30_ok {out : jm_S} (hX : jm_Ok p R s m args meth c A D ck ad sa cX6_ticks 3 none 1) (F : Nat) (x1 : Int32) (x2 : Int32) (k0 : Int32) (S : jm_S) (h : jm_ticks_b30 F x1 x2 k0 S = some out) : jm_J p l e R s m args below meth c A D ck ad 3 (jm_Qv below args s A D ck ad sa out) 30 [(0, .ref (ad 0)), (1, .int x1), (2, .int x2)] [.int k0, .ref (ad 0)] S := by
  intro H locs ls hP hD hS hl
  have hX0 := hX
  obtain ⟨hx, hb, hml, hown, hts, hlk, hr, hlv, hK, hZ⟩ := hX0
  unfold jm_ticks_b30 at h
  refine lv_iconst hx hb dX6_ticks_30 jx_ki1 ?_
  obtain ⟨q1, eq1, h⟩ := jx_bi_some h
  refine jm_callI hx hb hml hown hts hlv hK hZ (jm_throwsIf_met eq1) jm_throwsIf_g jm_throwsIf_d (As := [.int k0, .int (nI 1)]) (Nat.le_of_ble_eq_true rfl) (Nat.le_of_ble_eq_true rfl) hP hD hS hl.1 rfl rfl (lv_room (Nat.le_of_ble_eq_true rfl)) dX6_ticks_31 (fun H locs hP hD hS => ?_)
  refine lv_if_eq (tgt := 38) hx hb dX6_ticks_34 rfl (fun c2 => ?_) (fun c2 => ?_)
  · rw [if_pos c2] at h
    refine lv_aload_n hx hb dX6_ticks_38 rfl (lv_at hl 0 rfl) ?_
    refine jm_get hx hb hts hown hK hP jm_f1 (by decide) jm_g1 dX6_ticks_39 ?_
    refine lv_iconst hx hb dX6_ticks_42 jx_ki4 ?_
    refine lv_iload_n hx hb dX6_ticks_43 rfl (lv_at hl 1 rfl) ?_
    refine lv_iadd hx hb dX6_ticks_44 ?_
    refine lv_iload_n hx hb dX6_ticks_45 rfl (lv_at hl 2 rfl) ?_
    obtain ⟨j3, ej3, bj3, h⟩ := jx_ga_some h
    obtain ⟨S4, eS4, h⟩ := jx_nx_some h
    refine jm_iast hx hb hK hP hD hS jm_a1 (fun f => jm_u1 f) ej3 bj3 eS4 dX6_ticks_46 (fun H locs hP hD hS => ?_)
    exact jm_vret hx hb hr hlk hK hZ hP hD hS h dX6_ticks_47
  · rw [if_neg c2] at h
    exact jm_vret hx hb hr hlk hK hZ hP hD hS h dX6_ticks_37
theorem jm_ticks_b25_ok {out : jm_S} (hX : jm_Ok p R s m args meth c A D ck ad sa cX6_ticks 3 none 1) (F : Nat) (x1 : Int32) (x2 : Int32) (S : jm_S) (h : jm_ticks_b25 F x1 x2 S = some out) : jm_J p l e R s m args below meth c A D ck ad 3 (jm_Qv below args s A D ck ad sa out) 25 [(0, .ref (ad 0)), (1, .int x1), (2, .int x2)] [.ref (ad 0)] S := by
  intro H locs ls hP hD hS hl
  have hX0 := hX
  obtain ⟨hx, hb, hml, hown, hts, hlk, hr, hlv, hK, hZ⟩ := hX0
  unfold jm_ticks_b25 at h
  refine lv_iconst hx hb dX6_ticks_25 jx_ki1 ?_
  refine lv_goto (tgt := 30) hx hb dX6_ticks_26 rfl ?_
  exact jm_ticks_b30_ok hX F _ _ _ _ h _ _ _ hP hD hS hl
theorem jm_ticks_ok {out : jm_S} (hX : jm_Ok p R s m args meth c A D ck ad sa cX6_ticks 3 none 1) (F : Nat) (x1 : Int32) (x2 : Int32) (S : jm_S) (h : jm_ticks F x1 x2 S = some out) : jm_J p l e R s m args below meth c A D ck ad 3 (jm_Qv below args s A D ck ad sa out) 0 [(0, .ref (ad 0)), (1, .int x1), (2, .int x2)] [] S := by
  intro H locs ls hP hD hS hl
  have hX0 := hX
  obtain ⟨hx, hb, hml, hown, hts, hlk, hr, hlv, hK, hZ⟩ := hX0
  unfold jm_ticks at h
  refine lv_aload_n hx hb dX6_ticks_0 rfl (lv_at hl 0 rfl) ?_
  refine lv_iconst hx hb dX6_ticks_1 jx_ki0 ?_
  obtain ⟨S1, eS1, h⟩ := jx_nx_some h
  refine jm_put hx hb hts hown hK hP hD hS eS1 jm_f0 (by decide) jm_n0 jm_d0 jm_p0 dX6_ticks_2 (fun H locs hP hD hS => ?_)
  refine lv_aload_n hx hb dX6_ticks_5 rfl (lv_at hl 0 rfl) ?_
  refine lv_iload_n hx hb dX6_ticks_6 rfl (lv_at hl 1 rfl) ?_
  refine lv_iconst hx hb dX6_ticks_7 jx_ki1 ?_
  refine lv_iconst hx hb dX6_ticks_8 jx_ki3 ?_
  obtain ⟨q2, eq2, h⟩ := jx_bi_some h
  refine jx_callSi hx hb hml hown hts (jm_in_met eq2) jm_in_g_X6 jm_in_d (As := [.int x1, .int (nI 1), .int (nI 3)]) (by rw [hlv]; decide) hl.1 rfl rfl (lv_room (Nat.le_of_ble_eq_true rfl)) dX6_ticks_9 (by rw [hlv]; exact ⟨Nat.zero_le _, Nat.zero_le _⟩) ?_
  refine lv_if_eq (tgt := 25) hx hb dX6_ticks_12 rfl (fun c3 => ?_) (fun c3 => ?_)
  · rw [if_pos c3] at h
    exact jm_ticks_b25_ok hX F _ _ _ h _ _ _ hP hD hS hl
  · rw [if_neg c3] at h
    refine lv_iload_n hx hb dX6_ticks_15 rfl (lv_at hl 2 rfl) ?_
    refine lv_iconst hx hb dX6_ticks_16 jx_ki1 ?_
    refine lv_bipush hx hb dX6_ticks_17 jx_kb99 ?_
    obtain ⟨q4, eq4, h⟩ := jx_bi_some h
    refine jx_callSi hx hb hml hown hts (jm_in_met eq4) jm_in_g_X6 jm_in_d (As := [.int x2, .int (nI 1), .int (nI 99)]) (by rw [hlv]; decide) hl.1 rfl rfl (lv_room (Nat.le_of_ble_eq_true rfl)) dX6_ticks_19 (by rw [hlv]; exact ⟨Nat.zero_le _, Nat.zero_le _⟩) ?_
    refine lv_if_ne (tgt := 29) hx hb dX6_ticks_22 rfl (fun c5 => ?_) (fun c5 => ?_)
    · rw [if_neg c5] at h
      refine lv_iconst hx hb dX6_ticks_29 jx_ki0 ?_
      exact jm_ticks_b30_ok hX F _ _ _ _ h _ _ _ hP hD hS hl
    · rw [if_pos c5] at h
      exact jm_ticks_b25_ok hX F _ _ _ h _ _ _ hP hD hS hl
theorem jm_ticks_met {l : Launch} {D : va_G} {ck : Nat → ClassId} {ad sa : Nat → Nat} {A : Nat → Prop} {F : Nat} {x1 : Int32} {x2 : Int32} {S : jm_S} {out : jm_S} (h : jm_ticks F x1 x2 S = some out) : jm_Mv l D ck ad sa A yX6_ticks cX6_ticks 3 none 1 [.int x1, .int x2] S out :=
  jm_Mv_of ⟨by decide, rfl, Nat.le_of_ble_eq_true rfl⟩ (fun hX => jm_ticks_ok hX F x1 x2 S h)
theorem jm_all_d : yX6_all.cls = RX6 ∧ yX6_all.cls ≠ "java/lang/invoke/MethodHandle" ∧ yX6_all.cls ≠ "java/lang/invoke/VarHandle" ∧ (parseMethodDescriptor yX6_all.desc).map (fun d => d.parameters.length) = some 0 := by decide +kernel
theorem jm_all_g : GoodIn lw_all (wsV RX6 257 RX6 yX6_all (ws_ yX6_all cX6_all 1 (some .long))) := lw_V q1875 q1877 qs66 q110 q1878
theorem jm_all_ok {out : Int64 × jm_S} (hX : jm_Ok p R s m args meth c A D ck ad sa cX6_all 1 (some .long) 1) (F : Nat)  (S : jm_S) (h : jm_all F  S = some out) : jm_J p l e R s m args below meth c A D ck ad 1 (jm_Ql below args s A D ck ad sa out) 0 [(0, .ref (ad 0))] [] S := by
  intro H locs ls hP hD hS hl
  have hX0 := hX
  obtain ⟨hx, hb, hml, hown, hts, hlk, hr, hlv, hK, hZ⟩ := hX0
  unfold jm_all at h
  refine lv_lconst hx hb dX6_all_0 jx_kl1 ?_
  refine lv_aload_n hx hb dX6_all_1 rfl (lv_at hl 0 rfl) ?_
  obtain ⟨q1, eq1, h⟩ := jx_bi_some h
  refine jm_callI hx hb hml hown hts hlv hK hZ (jm_orders_met eq1) jm_orders_g jm_orders_d (As := []) (Nat.le_of_ble_eq_true rfl) (Nat.le_of_ble_eq_true rfl) hP hD hS hl.1 rfl rfl (lv_room (Nat.le_of_ble_eq_true rfl)) dX6_all_2 (fun H locs hP hD hS => ?_)
  refine lv_lshl hx hb dX6_all_5 rfl ?_
  refine lv_lconst hx hb dX6_all_6 jx_kl1 ?_
  refine lv_lsub hx hb dX6_all_7 ?_
  exact jm_lret hx hb hr hlk hK hZ hP hD hS h dX6_all_8
theorem jm_all_met {l : Launch} {D : va_G} {ck : Nat → ClassId} {ad sa : Nat → Nat} {A : Nat → Prop} {F : Nat}  {S : jm_S} {out : Int64 × jm_S} (h : jm_all F  S = some out) : jm_Ml l D ck ad sa A yX6_all cX6_all 1 (some .long) 1 [] S out :=
  jm_Ml_of ⟨by decide, rfl, Nat.le_of_ble_eq_true rfl⟩ (fun hX => jm_all_ok hX F  S h)
theorem jm_isCall_d : yX6_isCall.cls = RX6 ∧ yX6_isCall.cls ≠ "java/lang/invoke/MethodHandle" ∧ yX6_isCall.cls ≠ "java/lang/invoke/VarHandle" ∧ (parseMethodDescriptor yX6_isCall.desc).map (fun d => d.parameters.length) = some 1 := by decide +kernel
theorem jm_isCall_g : GoodIn lw_all (wsV RX6 247 RX6 yX6_isCall (ws_ yX6_isCall cX6_isCall 2 (some .boolean))) := lw_V q1859 q1861 qs62 q110 q1862
theorem jm_isCall_ok {out : Int32 × jm_S} (hX : jm_Ok p R s m args meth c A D ck ad sa cX6_isCall 2 (some .boolean) 2) (F : Nat) (x1 : Int32) (S : jm_S) (h : jm_isCall F x1 S = some out) : jm_J p l e R s m args below meth c A D ck ad 2 (jm_Qi below args s A D ck ad sa out) 0 [(0, .ref (ad 0)), (1, .int x1)] [] S := by
  intro H locs ls hP hD hS hl
  have hX0 := hX
  obtain ⟨hx, hb, hml, hown, hts, hlk, hr, hlv, hK, hZ⟩ := hX0
  unfold jm_isCall at h
  refine lv_aload_n hx hb dX6_isCall_0 rfl (lv_at hl 0 rfl) ?_
  refine lv_iload_n hx hb dX6_isCall_1 rfl (lv_at hl 1 rfl) ?_
  obtain ⟨q1, eq1, h⟩ := jx_bi_some h
  refine jm_callI hx hb hml hown hts hlv hK hZ (jm_wordOf_met eq1) jm_wordOf_g jm_wordOf_d (As := [.int x1]) (Nat.le_of_ble_eq_true rfl) (Nat.le_of_ble_eq_true rfl) hP hD hS hl.1 rfl rfl (lv_room (Nat.le_of_ble_eq_true rfl)) dX6_isCall_2 (fun H locs hP hD hS => ?_)
  refine lv_iconst hx hb dX6_isCall_5 jx_ki5 ?_
  refine lv_icmp_eq (tgt := 19) hx hb dX6_isCall_6 rfl (fun c2 => ?_) (fun c2 => ?_)
  · rw [if_pos c2] at h
    refine lv_iconst hx hb dX6_isCall_19 jx_ki1 ?_
    refine lv_goto (tgt := 24) hx hb dX6_isCall_20 rfl ?_
    exact jm_zret hx hb hr hlk hK hZ hP hD hS jx_nz1 h dX6_isCall_24
  · rw [if_neg c2] at h
    refine lv_aload_n hx hb dX6_isCall_9 rfl (lv_at hl 0 rfl) ?_
    refine lv_iload_n hx hb dX6_isCall_10 rfl (lv_at hl 1 rfl) ?_
    obtain ⟨q3, eq3, h⟩ := jx_bi_some h
    refine jm_callI hx hb hml hown hts hlv hK hZ (jm_wordOf_met eq3) jm_wordOf_g jm_wordOf_d (As := [.int x1]) (Nat.le_of_ble_eq_true rfl) (Nat.le_of_ble_eq_true rfl) hP hD hS hl.1 rfl rfl (lv_room (Nat.le_of_ble_eq_true rfl)) dX6_isCall_11 (fun H locs hP hD hS => ?_)
    refine lv_bipush hx hb dX6_isCall_14 jx_kb6 ?_
    refine lv_icmp_ne (tgt := 23) hx hb dX6_isCall_16 rfl (fun c4 => ?_) (fun c4 => ?_)
    · rw [if_neg c4] at h
      refine lv_iconst hx hb dX6_isCall_23 jx_ki0 ?_
      exact jm_zret hx hb hr hlk hK hZ hP hD hS jx_nz0 h dX6_isCall_24
    · rw [if_pos c4] at h
      refine lv_iconst hx hb dX6_isCall_19 jx_ki1 ?_
      refine lv_goto (tgt := 24) hx hb dX6_isCall_20 rfl ?_
      exact jm_zret hx hb hr hlk hK hZ hP hD hS jx_nz1 h dX6_isCall_24
theorem jm_isCall_met {l : Launch} {D : va_G} {ck : Nat → ClassId} {ad sa : Nat → Nat} {A : Nat → Prop} {F : Nat} {x1 : Int32} {S : jm_S} {out : Int32 × jm_S} (h : jm_isCall F x1 S = some out) : jm_Mi l D ck ad sa A yX6_isCall cX6_isCall 2 (some .boolean) 2 [.int x1] S out :=
  jm_Mi_of ⟨by decide, rfl, Nat.le_of_ble_eq_true rfl⟩ (fun hX => jm_isCall_ok hX F x1 S h)
theorem jm_behind_d : yX6_behind.cls = RX6 ∧ yX6_behind.cls ≠ "java/lang/invoke/MethodHandle" ∧ yX6_behind.cls ≠ "java/lang/invoke/VarHandle" ∧ (parseMethodDescriptor yX6_behind.desc).map (fun d => d.parameters.length) = some 0 := by decide +kernel
theorem jm_behind_g : GoodIn lw_all (wsV RX6 250 RX6 yX6_behind (ws_ yX6_behind cX6_behind 4 (some .long))) := lw_V q1855 q1857 qs61 q110 q1858
theorem jm_behind_b32_ok {out : Int64 × jm_S} (hX : jm_Ok p R s m args meth c A D ck ad sa cX6_behind 4 (some .long) 3) (F : Nat) {r4 : Int64 × Int32 × jm_S → Option (Int64 × jm_S)} (hr4 : ∀ a, r4 a = some out → jm_J p l e R s m args below meth c A D ck ad 4 (jm_Ql below args s A D ck ad sa out) 4 [(0, .ref (ad 0)), (1, .long a.1), (3, .int a.2.1)] [] a.2.2) (x3 : Int32) (k0 : Int64) (k1 : Int64) (S : jm_S) (h : jm_behind_b32 F r4 x3 k0 k1 S = some out) : jm_J p l e R s m args below meth c A D ck ad 4 (jm_Ql below args s A D ck ad sa out) 32 [(0, .ref (ad 0)), (3, .int x3)] [.long k0, .long k1] S := by
  intro H locs ls hP hD hS hl
  have hX0 := hX
  obtain ⟨hx, hb, hml, hown, hts, hlk, hr, hlv, hK, hZ⟩ := hX0
  unfold jm_behind_b32 at h
  refine lv_lor hx hb dX6_behind_32 ?_
  obtain ⟨y1, ey1, h⟩ := jx_nx_some h
  refine jx_topl ey1 ?_
  refine lv_lstore_n (lv' := [(1, .long y1), (0, .ref (ad 0)), (3, .int x3)]) hx hb dX6_behind_33 rfl hl (Nat.le_of_ble_eq_true rfl) rfl (fun ls hl => ?_)
  obtain ⟨y2, ey2, h⟩ := jx_nx_some h
  refine lv_iinc (v := y2) (lv' := [(3, .int y2), (1, .long y1), (0, .ref (ad 0))]) hx hb dX6_behind_34 hl (k := 2) rfl (jx_inc jx_ki1 ey2) (Nat.le_of_ble_eq_true rfl) rfl (fun ls hl => ?_)
  refine lv_goto (tgt := 4) hx hb dX6_behind_37 rfl ?_
  exact hr4 _ h _ _ _ hP hD hS (lv_sub hl [2, 1, 0] rfl)
theorem jm_behind_L4_ok {out : Int64 × jm_S} (hX : jm_Ok p R s m args meth c A D ck ad sa cX6_behind 4 (some .long) 3) (F : Nat) {r4 : Int64 × Int32 × jm_S → Option (Int64 × jm_S)} (hr4 : ∀ a, r4 a = some out → jm_J p l e R s m args below meth c A D ck ad 4 (jm_Ql below args s A D ck ad sa out) 4 [(0, .ref (ad 0)), (1, .long a.1), (3, .int a.2.1)] [] a.2.2) (x1 : Int64) (x3 : Int32) (S : jm_S) (h : jm_behind_L4 F r4 x1 x3 S = some out) : jm_J p l e R s m args below meth c A D ck ad 4 (jm_Ql below args s A D ck ad sa out) 4 [(0, .ref (ad 0)), (1, .long x1), (3, .int x3)] [] S := by
  intro H locs ls hP hD hS hl
  have hX0 := hX
  obtain ⟨hx, hb, hml, hown, hts, hlk, hr, hlv, hK, hZ⟩ := hX0
  unfold jm_behind_L4 at h
  refine lv_iload_n hx hb dX6_behind_4 rfl (lv_at hl 2 rfl) ?_
  refine lv_iconst hx hb dX6_behind_5 jx_ki1 ?_
  refine lv_iadd hx hb dX6_behind_6 ?_
  refine lv_aload_n hx hb dX6_behind_7 rfl (lv_at hl 0 rfl) ?_
  obtain ⟨q1, eq1, h⟩ := jx_bi_some h
  refine jm_callI hx hb hml hown hts hlv hK hZ (jm_orders_met eq1) jm_orders_g jm_orders_d (As := []) (Nat.le_of_ble_eq_true rfl) (Nat.le_of_ble_eq_true rfl) hP hD hS hl.1 rfl rfl (lv_room (Nat.le_of_ble_eq_true rfl)) dX6_behind_8 (fun H locs hP hD hS => ?_)
  refine lv_icmp_ge (tgt := 40) hx hb dX6_behind_11 rfl (fun c2 => ?_) (fun c2 => ?_)
  · rw [if_pos c2] at h
    refine lv_lload_n hx hb dX6_behind_40 rfl (lv_at hl 1 rfl) ?_
    exact jm_lret hx hb hr hlk hK hZ hP hD hS h dX6_behind_41
  · rw [if_neg c2] at h
    refine lv_lload_n hx hb dX6_behind_14 rfl (lv_at hl 1 rfl) ?_
    refine lv_aload_n hx hb dX6_behind_15 rfl (lv_at hl 0 rfl) ?_
    refine lv_iload_n hx hb dX6_behind_16 rfl (lv_at hl 2 rfl) ?_
    obtain ⟨q3, eq3, h⟩ := jx_bi_some h
    refine jm_callI hx hb hml hown hts hlv hK hZ (jm_isCall_met eq3) jm_isCall_g jm_isCall_d (As := [.int x3]) (Nat.le_of_ble_eq_true rfl) (Nat.le_of_ble_eq_true rfl) hP hD hS hl.1 rfl rfl (lv_room (Nat.le_of_ble_eq_true rfl)) dX6_behind_17 (fun H locs hP hD hS => ?_)
    refine lv_if_eq (tgt := 31) hx hb dX6_behind_20 rfl (fun c4 => ?_) (fun c4 => ?_)
    · rw [if_pos c4] at h
      refine lv_lconst hx hb dX6_behind_31 jx_kl0 ?_
      exact jm_behind_b32_ok hX F hr4 _ _ _ _ h _ _ _ hP hD hS (lv_sub hl [0, 2] rfl)
    · rw [if_neg c4] at h
      refine lv_lconst hx hb dX6_behind_23 jx_kl1 ?_
      refine lv_iload_n hx hb dX6_behind_24 rfl (lv_at hl 2 rfl) ?_
      refine lv_iconst hx hb dX6_behind_25 jx_ki1 ?_
      refine lv_iadd hx hb dX6_behind_26 ?_
      refine lv_lshl hx hb dX6_behind_27 rfl ?_
      refine lv_goto (tgt := 32) hx hb dX6_behind_28 rfl ?_
      exact jm_behind_b32_ok hX F hr4 _ _ _ _ h _ _ _ hP hD hS (lv_sub hl [0, 2] rfl)
theorem jm_behind_h4_ok {out : Int64 × jm_S} (hX : jm_Ok p R s m args meth c A D ck ad sa cX6_behind 4 (some .long) 3) (F : Nat) (n : Nat) (a : Int64 × Int32 × jm_S) (h : jm_behind_h4 F n a = some out) : jm_J p l e R s m args below meth c A D ck ad 4 (jm_Ql below args s A D ck ad sa out) 4 [(0, .ref (ad 0)), (1, .long a.1), (3, .int a.2.1)] [] a.2.2 :=
  jx_loop_ind (J := fun a => jm_J p l e R s m args below meth c A D ck ad 4 (jm_Ql below args s A D ck ad sa out) 4 [(0, .ref (ad 0)), (1, .long a.1), (3, .int a.2.1)] [] a.2.2) (fun r hr a h => jm_behind_L4_ok hX F hr a.1 a.2.1 a.2.2 h) n a h
theorem jm_behind_ok {out : Int64 × jm_S} (hX : jm_Ok p R s m args meth c A D ck ad sa cX6_behind 4 (some .long) 3) (F : Nat)  (S : jm_S) (h : jm_behind F  S = some out) : jm_J p l e R s m args below meth c A D ck ad 4 (jm_Ql below args s A D ck ad sa out) 0 [(0, .ref (ad 0))] [] S := by
  intro H locs ls hP hD hS hl
  have hX0 := hX
  obtain ⟨hx, hb, hml, hown, hts, hlk, hr, hlv, hK, hZ⟩ := hX0
  unfold jm_behind at h
  refine lv_lconst hx hb dX6_behind_0 jx_kl0 ?_
  obtain ⟨y1, ey1, h⟩ := jx_nx_some h
  refine jx_topl ey1 ?_
  refine lv_lstore_n (lv' := [(1, .long y1), (0, .ref (ad 0))]) hx hb dX6_behind_1 rfl hl (Nat.le_of_ble_eq_true rfl) rfl (fun ls hl => ?_)
  refine lv_iconst hx hb dX6_behind_2 jx_ki0 ?_
  obtain ⟨y2, ey2, h⟩ := jx_nx_some h
  refine jx_topi ey2 ?_
  refine lv_istore_n (lv' := [(3, .int y2), (1, .long y1), (0, .ref (ad 0))]) hx hb dX6_behind_3 rfl hl (Nat.le_of_ble_eq_true rfl) rfl (fun ls hl => ?_)
  exact jm_behind_h4_ok hX F F _ h _ _ _ hP hD hS (lv_sub hl [2, 1, 0] rfl)
theorem jm_behind_met {l : Launch} {D : va_G} {ck : Nat → ClassId} {ad sa : Nat → Nat} {A : Nat → Prop} {F : Nat}  {S : jm_S} {out : Int64 × jm_S} (h : jm_behind F  S = some out) : jm_Ml l D ck ad sa A yX6_behind cX6_behind 4 (some .long) 3 [] S out :=
  jm_Ml_of ⟨by decide, rfl, Nat.le_of_ble_eq_true rfl⟩ (fun hX => jm_behind_ok hX F  S h)
theorem jm_ofKind_d : yX6_ofKind.cls = RX6 ∧ yX6_ofKind.cls ≠ "java/lang/invoke/MethodHandle" ∧ yX6_ofKind.cls ≠ "java/lang/invoke/VarHandle" ∧ (parseMethodDescriptor yX6_ofKind.desc).map (fun d => d.parameters.length) = some 1 := by decide +kernel
theorem jm_ofKind_g : GoodIn lw_all (wsV RX6 254 RX6 yX6_ofKind (ws_ yX6_ofKind cX6_ofKind 5 (some .long))) := lw_V q1863 q1865 qs63 q110 q1866
theorem jm_ofKind_b34_ok {out : Int64 × jm_S} (hX : jm_Ok p R s m args meth c A D ck ad sa cX6_ofKind 5 (some .long) 1) (F : Nat) {r5 : Int32 × Int64 × Int32 × jm_S → Option (Int64 × jm_S)} (hr5 : ∀ a, r5 a = some out → jm_J p l e R s m args below meth c A D ck ad 5 (jm_Ql below args s A D ck ad sa out) 5 [(0, .ref (ad 0)), (1, .int a.1), (2, .long a.2.1), (4, .int a.2.2.1)] [] a.2.2.2) (x1 : Int32) (x4 : Int32) (k0 : Int64) (k1 : Int64) (S : jm_S) (h : jm_ofKind_b34 F r5 x1 x4 k0 k1 S = some out) : jm_J p l e R s m args below meth c A D ck ad 5 (jm_Ql below args s A D ck ad sa out) 34 [(0, .ref (ad 0)), (1, .int x1), (4, .int x4)] [.long k0, .long k1] S := by
  intro H locs ls hP hD hS hl
  have hX0 := hX
  obtain ⟨hx, hb, hml, hown, hts, hlk, hr, hlv, hK, hZ⟩ := hX0
  unfold jm_ofKind_b34 at h
  refine lv_lor hx hb dX6_ofKind_34 ?_
  obtain ⟨y1, ey1, h⟩ := jx_nx_some h
  refine jx_topl ey1 ?_
  refine lv_lstore_n (lv' := [(2, .long y1), (0, .ref (ad 0)), (1, .int x1), (4, .int x4)]) hx hb dX6_ofKind_35 rfl hl (Nat.le_of_ble_eq_true rfl) rfl (fun ls hl => ?_)
  obtain ⟨y2, ey2, h⟩ := jx_nx_some h
  refine lv_iinc (v := y2) (lv' := [(4, .int y2), (2, .long y1), (0, .ref (ad 0)), (1, .int x1)]) hx hb dX6_ofKind_36 hl (k := 3) rfl (jx_inc jx_ki1 ey2) (Nat.le_of_ble_eq_true rfl) rfl (fun ls hl => ?_)
  refine lv_goto (tgt := 5) hx hb dX6_ofKind_39 rfl ?_
  exact hr5 _ h _ _ _ hP hD hS (lv_sub hl [2, 3, 1, 0] rfl)
theorem jm_ofKind_L5_ok {out : Int64 × jm_S} (hX : jm_Ok p R s m args meth c A D ck ad sa cX6_ofKind 5 (some .long) 1) (F : Nat) {r5 : Int32 × Int64 × Int32 × jm_S → Option (Int64 × jm_S)} (hr5 : ∀ a, r5 a = some out → jm_J p l e R s m args below meth c A D ck ad 5 (jm_Ql below args s A D ck ad sa out) 5 [(0, .ref (ad 0)), (1, .int a.1), (2, .long a.2.1), (4, .int a.2.2.1)] [] a.2.2.2) (x1 : Int32) (x2 : Int64) (x4 : Int32) (S : jm_S) (h : jm_ofKind_L5 F r5 x1 x2 x4 S = some out) : jm_J p l e R s m args below meth c A D ck ad 5 (jm_Ql below args s A D ck ad sa out) 5 [(0, .ref (ad 0)), (1, .int x1), (2, .long x2), (4, .int x4)] [] S := by
  intro H locs ls hP hD hS hl
  have hX0 := hX
  obtain ⟨hx, hb, hml, hown, hts, hlk, hr, hlv, hK, hZ⟩ := hX0
  unfold jm_ofKind_L5 at h
  refine lv_iload hx hb dX6_ofKind_5 (lv_at hl 3 rfl) ?_
  refine lv_aload_n hx hb dX6_ofKind_7 rfl (lv_at hl 0 rfl) ?_
  obtain ⟨q1, eq1, h⟩ := jx_bi_some h
  refine jm_callI hx hb hml hown hts hlv hK hZ (jm_orders_met eq1) jm_orders_g jm_orders_d (As := []) (Nat.le_of_ble_eq_true rfl) (Nat.le_of_ble_eq_true rfl) hP hD hS hl.1 rfl rfl (lv_room (Nat.le_of_ble_eq_true rfl)) dX6_ofKind_8 (fun H locs hP hD hS => ?_)
  refine lv_icmp_ge (tgt := 42) hx hb dX6_ofKind_11 rfl (fun c2 => ?_) (fun c2 => ?_)
  · rw [if_pos c2] at h
    refine lv_lload_n hx hb dX6_ofKind_42 rfl (lv_at hl 2 rfl) ?_
    exact jm_lret hx hb hr hlk hK hZ hP hD hS h dX6_ofKind_43
  · rw [if_neg c2] at h
    refine lv_lload_n hx hb dX6_ofKind_14 rfl (lv_at hl 2 rfl) ?_
    refine lv_aload_n hx hb dX6_ofKind_15 rfl (lv_at hl 0 rfl) ?_
    refine lv_iload hx hb dX6_ofKind_16 (lv_at hl 3 rfl) ?_
    refine lv_iconst hx hb dX6_ofKind_18 jx_ki1 ?_
    obtain ⟨q3, eq3, h⟩ := jx_bi_some h
    refine jm_callI hx hb hml hown hts hlv hK hZ (jm_of_met eq3) jm_of_g jm_of_d (As := [.int x4, .int (nI 1)]) (Nat.le_of_ble_eq_true rfl) (Nat.le_of_ble_eq_true rfl) hP hD hS hl.1 rfl rfl (lv_room (Nat.le_of_ble_eq_true rfl)) dX6_ofKind_19 (fun H locs hP hD hS => ?_)
    refine lv_iload_n hx hb dX6_ofKind_22 rfl (lv_at hl 1 rfl) ?_
    refine lv_icmp_ne (tgt := 33) hx hb dX6_ofKind_23 rfl (fun c4 => ?_) (fun c4 => ?_)
    · rw [if_neg c4] at h
      refine lv_lconst hx hb dX6_ofKind_33 jx_kl0 ?_
      exact jm_ofKind_b34_ok hX F hr5 _ _ _ _ _ h _ _ _ hP hD hS (lv_sub hl [0, 1, 3] rfl)
    · rw [if_pos c4] at h
      refine lv_lconst hx hb dX6_ofKind_26 jx_kl1 ?_
      refine lv_iload hx hb dX6_ofKind_27 (lv_at hl 3 rfl) ?_
      refine lv_lshl hx hb dX6_ofKind_29 rfl ?_
      refine lv_goto (tgt := 34) hx hb dX6_ofKind_30 rfl ?_
      exact jm_ofKind_b34_ok hX F hr5 _ _ _ _ _ h _ _ _ hP hD hS (lv_sub hl [0, 1, 3] rfl)
theorem jm_ofKind_h5_ok {out : Int64 × jm_S} (hX : jm_Ok p R s m args meth c A D ck ad sa cX6_ofKind 5 (some .long) 1) (F : Nat) (n : Nat) (a : Int32 × Int64 × Int32 × jm_S) (h : jm_ofKind_h5 F n a = some out) : jm_J p l e R s m args below meth c A D ck ad 5 (jm_Ql below args s A D ck ad sa out) 5 [(0, .ref (ad 0)), (1, .int a.1), (2, .long a.2.1), (4, .int a.2.2.1)] [] a.2.2.2 :=
  jx_loop_ind (J := fun a => jm_J p l e R s m args below meth c A D ck ad 5 (jm_Ql below args s A D ck ad sa out) 5 [(0, .ref (ad 0)), (1, .int a.1), (2, .long a.2.1), (4, .int a.2.2.1)] [] a.2.2.2) (fun r hr a h => jm_ofKind_L5_ok hX F hr a.1 a.2.1 a.2.2.1 a.2.2.2 h) n a h
theorem jm_ofKind_ok {out : Int64 × jm_S} (hX : jm_Ok p R s m args meth c A D ck ad sa cX6_ofKind 5 (some .long) 1) (F : Nat) (x1 : Int32) (S : jm_S) (h : jm_ofKind F x1 S = some out) : jm_J p l e R s m args below meth c A D ck ad 5 (jm_Ql below args s A D ck ad sa out) 0 [(0, .ref (ad 0)), (1, .int x1)] [] S := by
  intro H locs ls hP hD hS hl
  have hX0 := hX
  obtain ⟨hx, hb, hml, hown, hts, hlk, hr, hlv, hK, hZ⟩ := hX0
  unfold jm_ofKind at h
  refine lv_lconst hx hb dX6_ofKind_0 jx_kl0 ?_
  obtain ⟨y1, ey1, h⟩ := jx_nx_some h
  refine jx_topl ey1 ?_
  refine lv_lstore_n (lv' := [(2, .long y1), (0, .ref (ad 0)), (1, .int x1)]) hx hb dX6_ofKind_1 rfl hl (Nat.le_of_ble_eq_true rfl) rfl (fun ls hl => ?_)
  refine lv_iconst hx hb dX6_ofKind_2 jx_ki0 ?_
  obtain ⟨y2, ey2, h⟩ := jx_nx_some h
  refine jx_topi ey2 ?_
  refine lv_istore (lv' := [(4, .int y2), (2, .long y1), (0, .ref (ad 0)), (1, .int x1)]) hx hb dX6_ofKind_3 hl (Nat.le_of_ble_eq_true rfl) rfl (fun ls hl => ?_)
  exact jm_ofKind_h5_ok hX F F _ h _ _ _ hP hD hS (lv_sub hl [2, 3, 1, 0] rfl)
theorem jm_ofKind_met {l : Launch} {D : va_G} {ck : Nat → ClassId} {ad sa : Nat → Nat} {A : Nat → Prop} {F : Nat} {x1 : Int32} {S : jm_S} {out : Int64 × jm_S} (h : jm_ofKind F x1 S = some out) : jm_Ml l D ck ad sa A yX6_ofKind cX6_ofKind 5 (some .long) 1 [.int x1] S out :=
  jm_Ml_of ⟨by decide, rfl, Nat.le_of_ble_eq_true rfl⟩ (fun hX => jm_ofKind_ok hX F x1 S h)
theorem jm_byKind_d : yX6_byKind.cls = RX6 ∧ yX6_byKind.cls ≠ "java/lang/invoke/MethodHandle" ∧ yX6_byKind.cls ≠ "java/lang/invoke/VarHandle" ∧ (parseMethodDescriptor yX6_byKind.desc).map (fun d => d.parameters.length) = some 1 := by decide +kernel
theorem jm_byKind_g : GoodIn lw_all (wsV RX6 240 RX6 yX6_byKind (ws_ yX6_byKind cX6_byKind 2 (some .long))) := lw_V q1851 q1853 qs60 q110 q1854
theorem jm_byKind_ok {out : Int64 × jm_S} (hX : jm_Ok p R s m args meth c A D ck ad sa cX6_byKind 2 (some .long) 4) (F : Nat) (x1 : Int32) (S : jm_S) (h : jm_byKind F x1 S = some out) : jm_J p l e R s m args below meth c A D ck ad 2 (jm_Ql below args s A D ck ad sa out) 0 [(0, .ref (ad 0)), (1, .int x1)] [] S := by
  intro H locs ls hP hD hS hl
  have hX0 := hX
  obtain ⟨hx, hb, hml, hown, hts, hlk, hr, hlv, hK, hZ⟩ := hX0
  unfold jm_byKind at h
  refine lv_aload_n hx hb dX6_byKind_0 rfl (lv_at hl 0 rfl) ?_
  refine lv_iload_n hx hb dX6_byKind_1 rfl (lv_at hl 1 rfl) ?_
  obtain ⟨q1, eq1, h⟩ := jx_bi_some h
  refine jm_callI hx hb hml hown hts hlv hK hZ (jm_wordOf_met eq1) jm_wordOf_g jm_wordOf_d (As := [.int x1]) (Nat.le_of_ble_eq_true rfl) (Nat.le_of_ble_eq_true rfl) hP hD hS hl.1 rfl rfl (lv_room (Nat.le_of_ble_eq_true rfl)) dX6_byKind_2 (fun H locs hP hD hS => ?_)
  refine lv_bipush hx hb dX6_byKind_5 jx_kb7 ?_
  refine lv_icmp_ne (tgt := 17) hx hb dX6_byKind_7 rfl (fun c2 => ?_) (fun c2 => ?_)
  · rw [if_neg c2] at h
    refine lv_aload_n hx hb dX6_byKind_17 rfl (lv_at hl 0 rfl) ?_
    refine lv_aload_n hx hb dX6_byKind_18 rfl (lv_at hl 0 rfl) ?_
    refine lv_iload_n hx hb dX6_byKind_19 rfl (lv_at hl 1 rfl) ?_
    refine lv_iconst hx hb dX6_byKind_20 jx_ki3 ?_
    obtain ⟨q3, eq3, h⟩ := jx_bi_some h
    refine jm_callI hx hb hml hown hts hlv hK hZ (jm_of_met eq3) jm_of_g jm_of_d (As := [.int x1, .int (nI 3)]) (Nat.le_of_ble_eq_true rfl) (Nat.le_of_ble_eq_true rfl) hP hD hS hl.1 rfl rfl (lv_room (Nat.le_of_ble_eq_true rfl)) dX6_byKind_21 (fun H locs hP hD hS => ?_)
    obtain ⟨q4, eq4, h⟩ := jx_bi_some h
    refine jm_callL hx hb hml hown hts hlv hK hZ (jm_ofKind_met eq4) jm_ofKind_g jm_ofKind_d (As := [.int q3.1]) (Nat.le_of_ble_eq_true rfl) (Nat.le_of_ble_eq_true rfl) hP hD hS hl.1 rfl rfl (lv_room (Nat.le_of_ble_eq_true rfl)) dX6_byKind_24 (fun H locs hP hD hS => ?_)
    exact jm_lret hx hb hr hlk hK hZ hP hD hS h dX6_byKind_27
  · rw [if_pos c2] at h
    refine lv_aload_n hx hb dX6_byKind_10 rfl (lv_at hl 0 rfl) ?_
    obtain ⟨q5, eq5, h⟩ := jx_bi_some h
    refine jm_callL hx hb hml hown hts hlv hK hZ (jm_behind_met eq5) jm_behind_g jm_behind_d (As := []) (Nat.le_of_ble_eq_true rfl) (Nat.le_of_ble_eq_true rfl) hP hD hS hl.1 rfl rfl (lv_room (Nat.le_of_ble_eq_true rfl)) dX6_byKind_11 (fun H locs hP hD hS => ?_)
    refine lv_goto (tgt := 27) hx hb dX6_byKind_14 rfl ?_
    exact jm_lret hx hb hr hlk hK hZ hP hD hS h dX6_byKind_27
theorem jm_byKind_met {l : Launch} {D : va_G} {ck : Nat → ClassId} {ad sa : Nat → Nat} {A : Nat → Prop} {F : Nat} {x1 : Int32} {S : jm_S} {out : Int64 × jm_S} (h : jm_byKind F x1 S = some out) : jm_Ml l D ck ad sa A yX6_byKind cX6_byKind 2 (some .long) 4 [.int x1] S out :=
  jm_Ml_of ⟨by decide, rfl, Nat.le_of_ble_eq_true rfl⟩ (fun hX => jm_byKind_ok hX F x1 S h)
theorem jm_throughFlow_d : yX6_throughFlow.cls = RX6 ∧ yX6_throughFlow.cls ≠ "java/lang/invoke/MethodHandle" ∧ yX6_throughFlow.cls ≠ "java/lang/invoke/VarHandle" ∧ (parseMethodDescriptor yX6_throughFlow.desc).map (fun d => d.parameters.length) = some 1 := by decide +kernel
theorem jm_throughFlow_g : GoodIn lw_all (wsV RX6 260 RX6 yX6_throughFlow (ws_ yX6_throughFlow cX6_throughFlow 2 (some .long))) := lw_V q1871 q1873 qs65 q110 q1874
theorem jm_throughFlow_ok {out : Int64 × jm_S} (hX : jm_Ok p R s m args meth c A D ck ad sa cX6_throughFlow 2 (some .long) 5) (F : Nat) (x1 : Int32) (S : jm_S) (h : jm_throughFlow F x1 S = some out) : jm_J p l e R s m args below meth c A D ck ad 2 (jm_Ql below args s A D ck ad sa out) 0 [(0, .ref (ad 0)), (1, .int x1)] [] S := by
  intro H locs ls hP hD hS hl
  have hX0 := hX
  obtain ⟨hx, hb, hml, hown, hts, hlk, hr, hlv, hK, hZ⟩ := hX0
  unfold jm_throughFlow at h
  refine lv_aload_n hx hb dX6_throughFlow_0 rfl (lv_at hl 0 rfl) ?_
  refine jm_get hx hb hts hown hK hP jm_f13 (by decide) jm_g13 dX6_throughFlow_1 ?_
  refine lv_aload_n hx hb dX6_throughFlow_4 rfl (lv_at hl 0 rfl) ?_
  refine lv_iload_n hx hb dX6_throughFlow_5 rfl (lv_at hl 1 rfl) ?_
  refine lv_iconst hx hb dX6_throughFlow_6 jx_ki5 ?_
  obtain ⟨q1, eq1, h⟩ := jx_bi_some h
  refine jm_callI hx hb hml hown hts hlv hK hZ (jm_of_met eq1) jm_of_g jm_of_d (As := [.int x1, .int (nI 5)]) (Nat.le_of_ble_eq_true rfl) (Nat.le_of_ble_eq_true rfl) hP hD hS hl.1 rfl rfl (lv_room (Nat.le_of_ble_eq_true rfl)) dX6_throughFlow_7 (fun H locs hP hD hS => ?_)
  obtain ⟨j2, ej2, bj2, h⟩ := jx_ga_some h
  refine jm_zald hx hb hK hP jm_a13 ej2 bj2 dX6_throughFlow_10 ?_
  refine lv_if_eq (tgt := 22) hx hb dX6_throughFlow_11 rfl (fun c3 => ?_) (fun c3 => ?_)
  · rw [if_pos c3] at h
    refine lv_aload_n hx hb dX6_throughFlow_22 rfl (lv_at hl 0 rfl) ?_
    refine jm_get hx hb hts hown hK hP jm_f12 (by decide) jm_g12 dX6_throughFlow_23 ?_
    refine lv_aload_n hx hb dX6_throughFlow_26 rfl (lv_at hl 0 rfl) ?_
    refine lv_iload_n hx hb dX6_throughFlow_27 rfl (lv_at hl 1 rfl) ?_
    refine lv_iconst hx hb dX6_throughFlow_28 jx_ki5 ?_
    obtain ⟨q4, eq4, h⟩ := jx_bi_some h
    refine jm_callI hx hb hml hown hts hlv hK hZ (jm_of_met eq4) jm_of_g jm_of_d (As := [.int x1, .int (nI 5)]) (Nat.le_of_ble_eq_true rfl) (Nat.le_of_ble_eq_true rfl) hP hD hS hl.1 rfl rfl (lv_room (Nat.le_of_ble_eq_true rfl)) dX6_throughFlow_29 (fun H locs hP hD hS => ?_)
    obtain ⟨j5, ej5, bj5, h⟩ := jx_ga_some h
    refine jm_lald hx hb hK hP jm_a12 ej5 bj5 dX6_throughFlow_32 ?_
    refine lv_aload_n hx hb dX6_throughFlow_33 rfl (lv_at hl 0 rfl) ?_
    obtain ⟨q6, eq6, h⟩ := jx_bi_some h
    refine jm_callL hx hb hml hown hts hlv hK hZ (jm_all_met eq6) jm_all_g jm_all_d (As := []) (Nat.le_of_ble_eq_true rfl) (Nat.le_of_ble_eq_true rfl) hP hD hS hl.1 rfl rfl (lv_room (Nat.le_of_ble_eq_true rfl)) dX6_throughFlow_34 (fun H locs hP hD hS => ?_)
    refine lv_land hx hb dX6_throughFlow_37 ?_
    exact jm_lret hx hb hr hlk hK hZ hP hD hS h dX6_throughFlow_38
  · rw [if_neg c3] at h
    refine lv_aload_n hx hb dX6_throughFlow_14 rfl (lv_at hl 0 rfl) ?_
    refine lv_iload_n hx hb dX6_throughFlow_15 rfl (lv_at hl 1 rfl) ?_
    obtain ⟨q7, eq7, h⟩ := jx_bi_some h
    refine jm_callL hx hb hml hown hts hlv hK hZ (jm_byKind_met eq7) jm_byKind_g jm_byKind_d (As := [.int x1]) (Nat.le_of_ble_eq_true rfl) (Nat.le_of_ble_eq_true rfl) hP hD hS hl.1 rfl rfl (lv_room (Nat.le_of_ble_eq_true rfl)) dX6_throughFlow_16 (fun H locs hP hD hS => ?_)
    refine lv_goto (tgt := 38) hx hb dX6_throughFlow_19 rfl ?_
    exact jm_lret hx hb hr hlk hK hZ hP hD hS h dX6_throughFlow_38
theorem jm_throughFlow_met {l : Launch} {D : va_G} {ck : Nat → ClassId} {ad sa : Nat → Nat} {A : Nat → Prop} {F : Nat} {x1 : Int32} {S : jm_S} {out : Int64 × jm_S} (h : jm_throughFlow F x1 S = some out) : jm_Ml l D ck ad sa A yX6_throughFlow cX6_throughFlow 2 (some .long) 5 [.int x1] S out :=
  jm_Ml_of ⟨by decide, rfl, Nat.le_of_ble_eq_true rfl⟩ (fun hX => jm_throughFlow_ok hX F x1 S h)
theorem jm_comesTo_d : yX6_comesTo.cls = RX6 ∧ yX6_comesTo.cls ≠ "java/lang/invoke/MethodHandle" ∧ yX6_comesTo.cls ≠ "java/lang/invoke/VarHandle" ∧ (parseMethodDescriptor yX6_comesTo.desc).map (fun d => d.parameters.length) = some 1 := by decide +kernel
theorem jm_comesTo_g : GoodIn lw_all (wsV RX6 263 RX6 yX6_comesTo (ws_ yX6_comesTo cX6_comesTo 9 (some .long))) := lw_V q1879 q1881 qs67 q110 q1882
theorem jm_comesTo_b130_ok {out : Int64 × jm_S} (hX : jm_Ok p R s m args meth c A D ck ad sa cX6_comesTo 9 (some .long) 6) (F : Nat) {r7 : Int64 × Int32 × jm_S → Option (Int64 × jm_S)} (hr7 : ∀ a, r7 a = some out → jm_J p l e R s m args below meth c A D ck ad 9 (jm_Ql below args s A D ck ad sa out) 7 [(0, .ref (ad 0)), (2, .long a.1), (4, .int a.2.1)] [] a.2.2) {r24 : Int64 × Int32 × Int32 × jm_S → Option (Int64 × jm_S)} (hr24 : ∀ a, r24 a = some out → jm_J p l e R s m args below meth c A D ck ad 9 (jm_Ql below args s A D ck ad sa out) 24 [(0, .ref (ad 0)), (2, .long a.1), (4, .int a.2.1), (5, .int a.2.2.1)] [] a.2.2.2) (x2 : Int64) (x4 : Int32) (x5 : Int32) (S : jm_S) (h : jm_comesTo_b130 F r7 r24 x2 x4 x5 S = some out) : jm_J p l e R s m args below meth c A D ck ad 9 (jm_Ql below args s A D ck ad sa out) 130 [(0, .ref (ad 0)), (2, .long x2), (4, .int x4), (5, .int x5)] [] S := by
  intro H locs ls hP hD hS hl
  have hX0 := hX
  obtain ⟨hx, hb, hml, hown, hts, hlk, hr, hlv, hK, hZ⟩ := hX0
  unfold jm_comesTo_b130 at h
  obtain ⟨y1, ey1, h⟩ := jx_nx_some h
  refine lv_iinc (v := y1) (lv' := [(5, .int y1), (0, .ref (ad 0)), (2, .long x2), (4, .int x4)]) hx hb dX6_comesTo_130 hl (k := 3) rfl (jx_inc jx_kim1 ey1) (Nat.le_of_ble_eq_true rfl) rfl (fun ls hl => ?_)
  refine lv_goto (tgt := 24) hx hb dX6_comesTo_133 rfl ?_
  exact hr24 _ h _ _ _ hP hD hS (lv_sub hl [1, 2, 3, 0] rfl)
theorem jm_comesTo_b114_ok {out : Int64 × jm_S} (hX : jm_Ok p R s m args meth c A D ck ad sa cX6_comesTo 9 (some .long) 6) (F : Nat) {r7 : Int64 × Int32 × jm_S → Option (Int64 × jm_S)} (hr7 : ∀ a, r7 a = some out → jm_J p l e R s m args below meth c A D ck ad 9 (jm_Ql below args s A D ck ad sa out) 7 [(0, .ref (ad 0)), (2, .long a.1), (4, .int a.2.1)] [] a.2.2) {r24 : Int64 × Int32 × Int32 × jm_S → Option (Int64 × jm_S)} (hr24 : ∀ a, r24 a = some out → jm_J p l e R s m args below meth c A D ck ad 9 (jm_Ql below args s A D ck ad sa out) 24 [(0, .ref (ad 0)), (2, .long a.1), (4, .int a.2.1), (5, .int a.2.2.1)] [] a.2.2.2) (x2 : Int64) (x4 : Int32) (x5 : Int32) (x6 : Int64) (S : jm_S) (h : jm_comesTo_b114 F r7 r24 x2 x4 x5 x6 S = some out) : jm_J p l e R s m args below meth c A D ck ad 9 (jm_Ql below args s A D ck ad sa out) 114 [(0, .ref (ad 0)), (2, .long x2), (4, .int x4), (5, .int x5), (6, .long x6)] [] S := by
  intro H locs ls hP hD hS hl
  have hX0 := hX
  obtain ⟨hx, hb, hml, hown, hts, hlk, hr, hlv, hK, hZ⟩ := hX0
  unfold jm_comesTo_b114 at h
  refine lv_lload hx hb dX6_comesTo_114 (lv_at hl 4 rfl) ?_
  refine lv_lload_n hx hb dX6_comesTo_116 rfl (lv_at hl 1 rfl) ?_
  refine lv_land hx hb dX6_comesTo_117 ?_
  refine lv_lconst hx hb dX6_comesTo_118 jx_kl0 ?_
  refine W.lcmp hx hb dX6_comesTo_119 ?_
  refine lv_if_eq (tgt := 130) hx hb dX6_comesTo_120 rfl (fun c1 => ?_) (fun c1 => ?_)
  · rw [if_pos c1] at h
    exact jm_comesTo_b130_ok hX F hr7 hr24 _ _ _ _ h _ _ _ hP hD hS (lv_sub hl [0, 1, 2, 3] rfl)
  · rw [if_neg c1] at h
    refine lv_lload_n hx hb dX6_comesTo_123 rfl (lv_at hl 1 rfl) ?_
    refine lv_lconst hx hb dX6_comesTo_124 jx_kl1 ?_
    refine lv_iload hx hb dX6_comesTo_125 (lv_at hl 3 rfl) ?_
    refine lv_lshl hx hb dX6_comesTo_127 rfl ?_
    refine lv_lor hx hb dX6_comesTo_128 ?_
    obtain ⟨y2, ey2, h⟩ := jx_nx_some h
    refine jx_topl ey2 ?_
    refine lv_lstore_n (lv' := [(2, .long y2), (0, .ref (ad 0)), (4, .int x4), (5, .int x5), (6, .long x6)]) hx hb dX6_comesTo_129 rfl hl (Nat.le_of_ble_eq_true rfl) rfl (fun ls hl => ?_)
    exact jm_comesTo_b130_ok hX F hr7 hr24 _ _ _ _ h _ _ _ hP hD hS (lv_sub hl [1, 0, 2, 3] rfl)
theorem jm_comesTo_b66_ok {out : Int64 × jm_S} (hX : jm_Ok p R s m args meth c A D ck ad sa cX6_comesTo 9 (some .long) 6) (F : Nat) {r7 : Int64 × Int32 × jm_S → Option (Int64 × jm_S)} (hr7 : ∀ a, r7 a = some out → jm_J p l e R s m args below meth c A D ck ad 9 (jm_Ql below args s A D ck ad sa out) 7 [(0, .ref (ad 0)), (2, .long a.1), (4, .int a.2.1)] [] a.2.2) {r24 : Int64 × Int32 × Int32 × jm_S → Option (Int64 × jm_S)} (hr24 : ∀ a, r24 a = some out → jm_J p l e R s m args below meth c A D ck ad 9 (jm_Ql below args s A D ck ad sa out) 24 [(0, .ref (ad 0)), (2, .long a.1), (4, .int a.2.1), (5, .int a.2.2.1)] [] a.2.2.2) (x2 : Int64) (x4 : Int32) (x5 : Int32) (x6 : Int64) (x8 : Int32) (S : jm_S) (h : jm_comesTo_b66 F r7 r24 x2 x4 x5 x6 x8 S = some out) : jm_J p l e R s m args below meth c A D ck ad 9 (jm_Ql below args s A D ck ad sa out) 66 [(0, .ref (ad 0)), (2, .long x2), (4, .int x4), (5, .int x5), (6, .long x6), (8, .int x8)] [] S := by
  intro H locs ls hP hD hS hl
  have hX0 := hX
  obtain ⟨hx, hb, hml, hown, hts, hlk, hr, hlv, hK, hZ⟩ := hX0
  unfold jm_comesTo_b66 at h
  refine lv_iload hx hb dX6_comesTo_66 (lv_at hl 5 rfl) ?_
  refine lv_iconst hx hb dX6_comesTo_68 jx_ki4 ?_
  refine lv_icmp_ne (tgt := 83) hx hb dX6_comesTo_69 rfl (fun c1 => ?_) (fun c1 => ?_)
  · rw [if_neg c1] at h
    refine lv_iload hx hb dX6_comesTo_83 (lv_at hl 5 rfl) ?_
    refine lv_iconst hx hb dX6_comesTo_85 jx_ki2 ?_
    refine lv_icmp_eq (tgt := 114) hx hb dX6_comesTo_86 rfl (fun c2 => ?_) (fun c2 => ?_)
    · rw [if_pos c2] at h
      exact jm_comesTo_b114_ok hX F hr7 hr24 _ _ _ _ _ h _ _ _ hP hD hS (lv_sub hl [0, 1, 2, 3, 4] rfl)
    · rw [if_neg c2] at h
      refine lv_iload hx hb dX6_comesTo_89 (lv_at hl 5 rfl) ?_
      refine lv_bipush hx hb dX6_comesTo_91 jx_kb7 ?_
      refine lv_icmp_eq (tgt := 114) hx hb dX6_comesTo_93 rfl (fun c3 => ?_) (fun c3 => ?_)
      · rw [if_pos c3] at h
        exact jm_comesTo_b114_ok hX F hr7 hr24 _ _ _ _ _ h _ _ _ hP hD hS (lv_sub hl [0, 1, 2, 3, 4] rfl)
      · rw [if_neg c3] at h
        refine lv_iload hx hb dX6_comesTo_96 (lv_at hl 5 rfl) ?_
        refine lv_bipush hx hb dX6_comesTo_98 jx_kb9 ?_
        refine lv_icmp_eq (tgt := 114) hx hb dX6_comesTo_100 rfl (fun c4 => ?_) (fun c4 => ?_)
        · rw [if_pos c4] at h
          exact jm_comesTo_b114_ok hX F hr7 hr24 _ _ _ _ _ h _ _ _ hP hD hS (lv_sub hl [0, 1, 2, 3, 4] rfl)
        · rw [if_neg c4] at h
          refine lv_lload hx hb dX6_comesTo_103 (lv_at hl 4 rfl) ?_
          refine lv_lconst hx hb dX6_comesTo_105 jx_kl1 ?_
          refine lv_iload hx hb dX6_comesTo_106 (lv_at hl 3 rfl) ?_
          refine lv_iconst hx hb dX6_comesTo_108 jx_ki1 ?_
          refine lv_iadd hx hb dX6_comesTo_109 ?_
          refine lv_lshl hx hb dX6_comesTo_110 rfl ?_
          refine lv_lor hx hb dX6_comesTo_111 ?_
          obtain ⟨y5, ey5, h⟩ := jx_nx_some h
          refine jx_topl ey5 ?_
          refine lv_lstore (lv' := [(6, .long y5), (0, .ref (ad 0)), (2, .long x2), (4, .int x4), (5, .int x5), (8, .int x8)]) hx hb dX6_comesTo_112 hl (Nat.le_of_ble_eq_true rfl) rfl (fun ls hl => ?_)
          exact jm_comesTo_b114_ok hX F hr7 hr24 _ _ _ _ _ h _ _ _ hP hD hS (lv_sub hl [1, 2, 3, 4, 0] rfl)
  · rw [if_pos c1] at h
    refine lv_aload_n hx hb dX6_comesTo_72 rfl (lv_at hl 0 rfl) ?_
    refine lv_iload hx hb dX6_comesTo_73 (lv_at hl 3 rfl) ?_
    obtain ⟨q6, eq6, h⟩ := jx_bi_some h
    refine jm_callL hx hb hml hown hts hlv hK hZ (jm_throughFlow_met eq6) jm_throughFlow_g jm_throughFlow_d (As := [.int x5]) (Nat.le_of_ble_eq_true rfl) (Nat.le_of_ble_eq_true rfl) hP hD hS hl.1 rfl rfl (lv_room (Nat.le_of_ble_eq_true rfl)) dX6_comesTo_75 (fun H locs hP hD hS => ?_)
    obtain ⟨y7, ey7, h⟩ := jx_nx_some h
    refine jx_topl ey7 ?_
    refine lv_lstore (lv' := [(6, .long y7), (0, .ref (ad 0)), (2, .long x2), (4, .int x4), (5, .int x5), (8, .int x8)]) hx hb dX6_comesTo_78 hl (Nat.le_of_ble_eq_true rfl) rfl (fun ls hl => ?_)
    refine lv_goto (tgt := 114) hx hb dX6_comesTo_80 rfl ?_
    exact jm_comesTo_b114_ok hX F hr7 hr24 _ _ _ _ _ h _ _ _ hP hD hS (lv_sub hl [1, 2, 3, 4, 0] rfl)
theorem jm_comesTo_b52_ok {out : Int64 × jm_S} (hX : jm_Ok p R s m args meth c A D ck ad sa cX6_comesTo 9 (some .long) 6) (F : Nat) {r7 : Int64 × Int32 × jm_S → Option (Int64 × jm_S)} (hr7 : ∀ a, r7 a = some out → jm_J p l e R s m args below meth c A D ck ad 9 (jm_Ql below args s A D ck ad sa out) 7 [(0, .ref (ad 0)), (2, .long a.1), (4, .int a.2.1)] [] a.2.2) {r24 : Int64 × Int32 × Int32 × jm_S → Option (Int64 × jm_S)} (hr24 : ∀ a, r24 a = some out → jm_J p l e R s m args below meth c A D ck ad 9 (jm_Ql below args s A D ck ad sa out) 24 [(0, .ref (ad 0)), (2, .long a.1), (4, .int a.2.1), (5, .int a.2.2.1)] [] a.2.2.2) (x2 : Int64) (x4 : Int32) (x5 : Int32) (x6 : Int64) (x8 : Int32) (S : jm_S) (h : jm_comesTo_b52 F r7 r24 x2 x4 x5 x6 x8 S = some out) : jm_J p l e R s m args below meth c A D ck ad 9 (jm_Ql below args s A D ck ad sa out) 52 [(0, .ref (ad 0)), (2, .long x2), (4, .int x4), (5, .int x5), (6, .long x6), (8, .int x8)] [] S := by
  intro H locs ls hP hD hS hl
  have hX0 := hX
  obtain ⟨hx, hb, hml, hown, hts, hlk, hr, hlv, hK, hZ⟩ := hX0
  unfold jm_comesTo_b52 at h
  refine lv_lload hx hb dX6_comesTo_52 (lv_at hl 4 rfl) ?_
  refine lv_lconst hx hb dX6_comesTo_54 jx_kl1 ?_
  refine lv_aload_n hx hb dX6_comesTo_55 rfl (lv_at hl 0 rfl) ?_
  refine lv_iload hx hb dX6_comesTo_56 (lv_at hl 3 rfl) ?_
  refine lv_iconst hx hb dX6_comesTo_58 jx_ki4 ?_
  obtain ⟨q1, eq1, h⟩ := jx_bi_some h
  refine jm_callI hx hb hml hown hts hlv hK hZ (jm_of_met eq1) jm_of_g jm_of_d (As := [.int x5, .int (nI 4)]) (Nat.le_of_ble_eq_true rfl) (Nat.le_of_ble_eq_true rfl) hP hD hS hl.1 rfl rfl (lv_room (Nat.le_of_ble_eq_true rfl)) dX6_comesTo_59 (fun H locs hP hD hS => ?_)
  refine lv_lshl hx hb dX6_comesTo_62 rfl ?_
  refine lv_lor hx hb dX6_comesTo_63 ?_
  obtain ⟨y2, ey2, h⟩ := jx_nx_some h
  refine jx_topl ey2 ?_
  refine lv_lstore (lv' := [(6, .long y2), (0, .ref (ad 0)), (2, .long x2), (4, .int x4), (5, .int x5), (8, .int x8)]) hx hb dX6_comesTo_64 hl (Nat.le_of_ble_eq_true rfl) rfl (fun ls hl => ?_)
  exact jm_comesTo_b66_ok hX F hr7 hr24 _ _ _ _ _ _ h _ _ _ hP hD hS (lv_sub hl [1, 2, 3, 4, 0, 5] rfl)
theorem jm_comesTo_L24_ok {out : Int64 × jm_S} (hX : jm_Ok p R s m args meth c A D ck ad sa cX6_comesTo 9 (some .long) 6) (F : Nat) {r7 : Int64 × Int32 × jm_S → Option (Int64 × jm_S)} (hr7 : ∀ a, r7 a = some out → jm_J p l e R s m args below meth c A D ck ad 9 (jm_Ql below args s A D ck ad sa out) 7 [(0, .ref (ad 0)), (2, .long a.1), (4, .int a.2.1)] [] a.2.2) {r24 : Int64 × Int32 × Int32 × jm_S → Option (Int64 × jm_S)} (hr24 : ∀ a, r24 a = some out → jm_J p l e R s m args below meth c A D ck ad 9 (jm_Ql below args s A D ck ad sa out) 24 [(0, .ref (ad 0)), (2, .long a.1), (4, .int a.2.1), (5, .int a.2.2.1)] [] a.2.2.2) (x2 : Int64) (x4 : Int32) (x5 : Int32) (S : jm_S) (h : jm_comesTo_L24 F r7 r24 x2 x4 x5 S = some out) : jm_J p l e R s m args below meth c A D ck ad 9 (jm_Ql below args s A D ck ad sa out) 24 [(0, .ref (ad 0)), (2, .long x2), (4, .int x4), (5, .int x5)] [] S := by
  intro H locs ls hP hD hS hl
  have hX0 := hX
  obtain ⟨hx, hb, hml, hown, hts, hlk, hr, hlv, hK, hZ⟩ := hX0
  unfold jm_comesTo_L24 at h
  refine lv_iload hx hb dX6_comesTo_24 (lv_at hl 3 rfl) ?_
  refine lv_if_lt (tgt := 136) hx hb dX6_comesTo_26 rfl (fun c1 => ?_) (fun c1 => ?_)
  · rw [if_pos c1] at h
    obtain ⟨y2, ey2, h⟩ := jx_nx_some h
    refine lv_iinc (v := y2) (lv' := [(4, .int y2), (0, .ref (ad 0)), (2, .long x2), (5, .int x5)]) hx hb dX6_comesTo_136 hl (k := 2) rfl (jx_inc jx_ki1 ey2) (Nat.le_of_ble_eq_true rfl) rfl (fun ls hl => ?_)
    refine lv_goto (tgt := 7) hx hb dX6_comesTo_139 rfl ?_
    exact hr7 _ h _ _ _ hP hD hS (lv_sub hl [1, 2, 0] rfl)
  · rw [if_neg c1] at h
    refine lv_lconst hx hb dX6_comesTo_29 jx_kl0 ?_
    obtain ⟨y3, ey3, h⟩ := jx_nx_some h
    refine jx_topl ey3 ?_
    refine lv_lstore (lv' := [(6, .long y3), (0, .ref (ad 0)), (2, .long x2), (4, .int x4), (5, .int x5)]) hx hb dX6_comesTo_30 hl (Nat.le_of_ble_eq_true rfl) rfl (fun ls hl => ?_)
    refine lv_aload_n hx hb dX6_comesTo_32 rfl (lv_at hl 1 rfl) ?_
    refine lv_iload hx hb dX6_comesTo_33 (lv_at hl 4 rfl) ?_
    obtain ⟨q4, eq4, h⟩ := jx_bi_some h
    refine jm_callI hx hb hml hown hts hlv hK hZ (jm_wordOf_met eq4) jm_wordOf_g jm_wordOf_d (As := [.int x5]) (Nat.le_of_ble_eq_true rfl) (Nat.le_of_ble_eq_true rfl) hP hD hS hl.1 rfl rfl (lv_room (Nat.le_of_ble_eq_true rfl)) dX6_comesTo_35 (fun H locs hP hD hS => ?_)
    obtain ⟨y5, ey5, h⟩ := jx_nx_some h
    refine jx_topi ey5 ?_
    refine lv_istore (lv' := [(8, .int y5), (6, .long y3), (0, .ref (ad 0)), (2, .long x2), (4, .int x4), (5, .int x5)]) hx hb dX6_comesTo_38 hl (Nat.le_of_ble_eq_true rfl) rfl (fun ls hl => ?_)
    refine lv_iload hx hb dX6_comesTo_40 (lv_at hl 0 rfl) ?_
    refine lv_iconst hx hb dX6_comesTo_42 jx_ki2 ?_
    refine lv_icmp_eq (tgt := 52) hx hb dX6_comesTo_43 rfl (fun c6 => ?_) (fun c6 => ?_)
    · rw [if_pos c6] at h
      exact jm_comesTo_b52_ok hX F hr7 hr24 _ _ _ _ _ _ h _ _ _ hP hD hS (lv_sub hl [2, 3, 4, 5, 1, 0] rfl)
    · rw [if_neg c6] at h
      refine lv_iload hx hb dX6_comesTo_46 (lv_at hl 0 rfl) ?_
      refine lv_iconst hx hb dX6_comesTo_48 jx_ki3 ?_
      refine lv_icmp_ne (tgt := 66) hx hb dX6_comesTo_49 rfl (fun c7 => ?_) (fun c7 => ?_)
      · rw [if_neg c7] at h
        exact jm_comesTo_b66_ok hX F hr7 hr24 _ _ _ _ _ _ h _ _ _ hP hD hS (lv_sub hl [2, 3, 4, 5, 1, 0] rfl)
      · rw [if_pos c7] at h
        exact jm_comesTo_b52_ok hX F hr7 hr24 _ _ _ _ _ _ h _ _ _ hP hD hS (lv_sub hl [2, 3, 4, 5, 1, 0] rfl)
theorem jm_comesTo_h24_ok {out : Int64 × jm_S} (hX : jm_Ok p R s m args meth c A D ck ad sa cX6_comesTo 9 (some .long) 6) (F : Nat) {r7 : Int64 × Int32 × jm_S → Option (Int64 × jm_S)} (hr7 : ∀ a, r7 a = some out → jm_J p l e R s m args below meth c A D ck ad 9 (jm_Ql below args s A D ck ad sa out) 7 [(0, .ref (ad 0)), (2, .long a.1), (4, .int a.2.1)] [] a.2.2) (n : Nat) (a : Int64 × Int32 × Int32 × jm_S) (h : jm_comesTo_h24 F r7 n a = some out) : jm_J p l e R s m args below meth c A D ck ad 9 (jm_Ql below args s A D ck ad sa out) 24 [(0, .ref (ad 0)), (2, .long a.1), (4, .int a.2.1), (5, .int a.2.2.1)] [] a.2.2.2 :=
  jx_loop_ind (J := fun a => jm_J p l e R s m args below meth c A D ck ad 9 (jm_Ql below args s A D ck ad sa out) 24 [(0, .ref (ad 0)), (2, .long a.1), (4, .int a.2.1), (5, .int a.2.2.1)] [] a.2.2.2) (fun r hr a h => jm_comesTo_L24_ok hX F hr7 hr a.1 a.2.1 a.2.2.1 a.2.2.2 h) n a h
theorem jm_comesTo_L7_ok {out : Int64 × jm_S} (hX : jm_Ok p R s m args meth c A D ck ad sa cX6_comesTo 9 (some .long) 6) (F : Nat) {r7 : Int64 × Int32 × jm_S → Option (Int64 × jm_S)} (hr7 : ∀ a, r7 a = some out → jm_J p l e R s m args below meth c A D ck ad 9 (jm_Ql below args s A D ck ad sa out) 7 [(0, .ref (ad 0)), (2, .long a.1), (4, .int a.2.1)] [] a.2.2) (x2 : Int64) (x4 : Int32) (S : jm_S) (h : jm_comesTo_L7 F r7 x2 x4 S = some out) : jm_J p l e R s m args below meth c A D ck ad 9 (jm_Ql below args s A D ck ad sa out) 7 [(0, .ref (ad 0)), (2, .long x2), (4, .int x4)] [] S := by
  intro H locs ls hP hD hS hl
  have hX0 := hX
  obtain ⟨hx, hb, hml, hown, hts, hlk, hr, hlv, hK, hZ⟩ := hX0
  unfold jm_comesTo_L7 at h
  refine lv_iload hx hb dX6_comesTo_7 (lv_at hl 2 rfl) ?_
  refine lv_aload_n hx hb dX6_comesTo_9 rfl (lv_at hl 0 rfl) ?_
  obtain ⟨q1, eq1, h⟩ := jx_bi_some h
  refine jm_callI hx hb hml hown hts hlv hK hZ (jm_orders_met eq1) jm_orders_g jm_orders_d (As := []) (Nat.le_of_ble_eq_true rfl) (Nat.le_of_ble_eq_true rfl) hP hD hS hl.1 rfl rfl (lv_room (Nat.le_of_ble_eq_true rfl)) dX6_comesTo_10 (fun H locs hP hD hS => ?_)
  refine lv_icmp_ge (tgt := 142) hx hb dX6_comesTo_13 rfl (fun c2 => ?_) (fun c2 => ?_)
  · rw [if_pos c2] at h
    refine lv_lload_n hx hb dX6_comesTo_142 rfl (lv_at hl 1 rfl) ?_
    exact jm_lret hx hb hr hlk hK hZ hP hD hS h dX6_comesTo_143
  · rw [if_neg c2] at h
    refine lv_aload_n hx hb dX6_comesTo_16 rfl (lv_at hl 0 rfl) ?_
    obtain ⟨q3, eq3, h⟩ := jx_bi_some h
    refine jm_callI hx hb hml hown hts hlv hK hZ (jm_orders_met eq3) jm_orders_g jm_orders_d (As := []) (Nat.le_of_ble_eq_true rfl) (Nat.le_of_ble_eq_true rfl) hP hD hS hl.1 rfl rfl (lv_room (Nat.le_of_ble_eq_true rfl)) dX6_comesTo_17 (fun H locs hP hD hS => ?_)
    refine lv_iconst hx hb dX6_comesTo_20 jx_ki1 ?_
    refine lv_isub hx hb dX6_comesTo_21 ?_
    obtain ⟨y4, ey4, h⟩ := jx_nx_some h
    refine jx_topi ey4 ?_
    refine lv_istore (lv' := [(5, .int y4), (0, .ref (ad 0)), (2, .long x2), (4, .int x4)]) hx hb dX6_comesTo_22 hl (Nat.le_of_ble_eq_true rfl) rfl (fun ls hl => ?_)
    exact jm_comesTo_h24_ok hX F hr7 F _ h _ _ _ hP hD hS (lv_sub hl [1, 2, 3, 0] rfl)
theorem jm_comesTo_h7_ok {out : Int64 × jm_S} (hX : jm_Ok p R s m args meth c A D ck ad sa cX6_comesTo 9 (some .long) 6) (F : Nat) (n : Nat) (a : Int64 × Int32 × jm_S) (h : jm_comesTo_h7 F n a = some out) : jm_J p l e R s m args below meth c A D ck ad 9 (jm_Ql below args s A D ck ad sa out) 7 [(0, .ref (ad 0)), (2, .long a.1), (4, .int a.2.1)] [] a.2.2 :=
  jx_loop_ind (J := fun a => jm_J p l e R s m args below meth c A D ck ad 9 (jm_Ql below args s A D ck ad sa out) 7 [(0, .ref (ad 0)), (2, .long a.1), (4, .int a.2.1)] [] a.2.2) (fun r hr a h => jm_comesTo_L7_ok hX F hr a.1 a.2.1 a.2.2 h) n a h
theorem jm_comesTo_ok {out : Int64 × jm_S} (hX : jm_Ok p R s m args meth c A D ck ad sa cX6_comesTo 9 (some .long) 6) (F : Nat) (x1 : Int32) (S : jm_S) (h : jm_comesTo F x1 S = some out) : jm_J p l e R s m args below meth c A D ck ad 9 (jm_Ql below args s A D ck ad sa out) 0 [(0, .ref (ad 0)), (1, .int x1)] [] S := by
  intro H locs ls hP hD hS hl
  have hX0 := hX
  obtain ⟨hx, hb, hml, hown, hts, hlk, hr, hlv, hK, hZ⟩ := hX0
  unfold jm_comesTo at h
  refine lv_lconst hx hb dX6_comesTo_0 jx_kl1 ?_
  refine lv_iload_n hx hb dX6_comesTo_1 rfl (lv_at hl 1 rfl) ?_
  refine lv_lshl hx hb dX6_comesTo_2 rfl ?_
  obtain ⟨y1, ey1, h⟩ := jx_nx_some h
  refine jx_topl ey1 ?_
  refine lv_lstore_n (lv' := [(2, .long y1), (0, .ref (ad 0)), (1, .int x1)]) hx hb dX6_comesTo_3 rfl hl (Nat.le_of_ble_eq_true rfl) rfl (fun ls hl => ?_)
  refine lv_iconst hx hb dX6_comesTo_4 jx_ki0 ?_
  obtain ⟨y2, ey2, h⟩ := jx_nx_some h
  refine jx_topi ey2 ?_
  refine lv_istore (lv' := [(4, .int y2), (2, .long y1), (0, .ref (ad 0)), (1, .int x1)]) hx hb dX6_comesTo_5 hl (Nat.le_of_ble_eq_true rfl) rfl (fun ls hl => ?_)
  exact jm_comesTo_h7_ok hX F F _ h _ _ _ hP hD hS (lv_sub hl [2, 1, 0] rfl)
theorem jm_comesTo_met {l : Launch} {D : va_G} {ck : Nat → ClassId} {ad sa : Nat → Nat} {A : Nat → Prop} {F : Nat} {x1 : Int32} {S : jm_S} {out : Int64 × jm_S} (h : jm_comesTo F x1 S = some out) : jm_Ml l D ck ad sa A yX6_comesTo cX6_comesTo 9 (some .long) 6 [.int x1] S out :=
  jm_Ml_of ⟨by decide, rfl, Nat.le_of_ble_eq_true rfl⟩ (fun hX => jm_comesTo_ok hX F x1 S h)
theorem jm_byFlow_d : yX6_byFlow.cls = RX6 ∧ yX6_byFlow.cls ≠ "java/lang/invoke/MethodHandle" ∧ yX6_byFlow.cls ≠ "java/lang/invoke/VarHandle" ∧ (parseMethodDescriptor yX6_byFlow.desc).map (fun d => d.parameters.length) = some 1 := by decide +kernel
theorem jm_byFlow_g : GoodIn lw_all (wsV RX6 244 RX6 yX6_byFlow (ws_ yX6_byFlow cX6_byFlow 9 (some .long))) := lw_V q1867 q1869 qs64 q110 q1870
theorem jm_byFlow_b110_ok {out : Int64 × jm_S} (hX : jm_Ok p R s m args meth c A D ck ad sa cX6_byFlow 9 (some .long) 7) (F : Nat) {r28 : Int64 × Int64 × Int32 × jm_S → Option (Int64 × jm_S)} (hr28 : ∀ a, r28 a = some out → jm_J p l e R s m args below meth c A D ck ad 9 (jm_Ql below args s A D ck ad sa out) 28 [(0, .ref (ad 0)), (2, .long a.1), (4, .long a.2.1), (6, .int a.2.2.1)] [] a.2.2.2) (x2 : Int64) (x4 : Int64) (x6 : Int32) (S : jm_S) (h : jm_byFlow_b110 F r28 x2 x4 x6 S = some out) : jm_J p l e R s m args below meth c A D ck ad 9 (jm_Ql below args s A D ck ad sa out) 110 [(0, .ref (ad 0)), (2, .long x2), (4, .long x4), (6, .int x6)] [] S := by
  intro H locs ls hP hD hS hl
  have hX0 := hX
  obtain ⟨hx, hb, hml, hown, hts, hlk, hr, hlv, hK, hZ⟩ := hX0
  unfold jm_byFlow_b110 at h
  obtain ⟨y1, ey1, h⟩ := jx_nx_some h
  refine lv_iinc (v := y1) (lv' := [(6, .int y1), (0, .ref (ad 0)), (2, .long x2), (4, .long x4)]) hx hb dX6_byFlow_110 hl (k := 3) rfl (jx_inc jx_ki1 ey1) (Nat.le_of_ble_eq_true rfl) rfl (fun ls hl => ?_)
  refine lv_goto (tgt := 28) hx hb dX6_byFlow_113 rfl ?_
  exact hr28 _ h _ _ _ hP hD hS (lv_sub hl [1, 2, 3, 0] rfl)
theorem jm_byFlow_b107_ok {out : Int64 × jm_S} (hX : jm_Ok p R s m args meth c A D ck ad sa cX6_byFlow 9 (some .long) 7) (F : Nat) {r28 : Int64 × Int64 × Int32 × jm_S → Option (Int64 × jm_S)} (hr28 : ∀ a, r28 a = some out → jm_J p l e R s m args below meth c A D ck ad 9 (jm_Ql below args s A D ck ad sa out) 28 [(0, .ref (ad 0)), (2, .long a.1), (4, .long a.2.1), (6, .int a.2.2.1)] [] a.2.2.2) (x2 : Int64) (x6 : Int32) (k0 : Int64) (k1 : Int64) (S : jm_S) (h : jm_byFlow_b107 F r28 x2 x6 k0 k1 S = some out) : jm_J p l e R s m args below meth c A D ck ad 9 (jm_Ql below args s A D ck ad sa out) 107 [(0, .ref (ad 0)), (2, .long x2), (6, .int x6)] [.long k0, .long k1] S := by
  intro H locs ls hP hD hS hl
  have hX0 := hX
  obtain ⟨hx, hb, hml, hown, hts, hlk, hr, hlv, hK, hZ⟩ := hX0
  unfold jm_byFlow_b107 at h
  refine lv_lor hx hb dX6_byFlow_107 ?_
  obtain ⟨y1, ey1, h⟩ := jx_nx_some h
  refine jx_topl ey1 ?_
  refine lv_lstore (lv' := [(4, .long y1), (0, .ref (ad 0)), (2, .long x2), (6, .int x6)]) hx hb dX6_byFlow_108 hl (Nat.le_of_ble_eq_true rfl) rfl (fun ls hl => ?_)
  exact jm_byFlow_b110_ok hX F hr28 _ _ _ _ h _ _ _ hP hD hS (lv_sub hl [1, 2, 0, 3] rfl)
theorem jm_byFlow_b84_ok {out : Int64 × jm_S} (hX : jm_Ok p R s m args meth c A D ck ad sa cX6_byFlow 9 (some .long) 7) (F : Nat) {r28 : Int64 × Int64 × Int32 × jm_S → Option (Int64 × jm_S)} (hr28 : ∀ a, r28 a = some out → jm_J p l e R s m args below meth c A D ck ad 9 (jm_Ql below args s A D ck ad sa out) 28 [(0, .ref (ad 0)), (2, .long a.1), (4, .long a.2.1), (6, .int a.2.2.1)] [] a.2.2.2) (x2 : Int64) (x4 : Int64) (x6 : Int32) (k0 : Int64) (S : jm_S) (h : jm_byFlow_b84 F r28 x2 x4 x6 k0 S = some out) : jm_J p l e R s m args below meth c A D ck ad 9 (jm_Ql below args s A D ck ad sa out) 84 [(0, .ref (ad 0)), (2, .long x2), (4, .long x4), (6, .int x6)] [.long k0] S := by
  intro H locs ls hP hD hS hl
  have hX0 := hX
  obtain ⟨hx, hb, hml, hown, hts, hlk, hr, hlv, hK, hZ⟩ := hX0
  unfold jm_byFlow_b84 at h
  refine lv_lstore (lv' := [(7, .long k0), (0, .ref (ad 0)), (2, .long x2), (4, .long x4), (6, .int x6)]) hx hb dX6_byFlow_84 hl (Nat.le_of_ble_eq_true rfl) rfl (fun ls hl => ?_)
  refine lv_lload hx hb dX6_byFlow_86 (lv_at hl 3 rfl) ?_
  refine lv_lload hx hb dX6_byFlow_88 (lv_at hl 0 rfl) ?_
  refine lv_lload_n hx hb dX6_byFlow_90 rfl (lv_at hl 2 rfl) ?_
  refine lv_land hx hb dX6_byFlow_91 ?_
  refine lv_lconst hx hb dX6_byFlow_92 jx_kl0 ?_
  refine W.lcmp hx hb dX6_byFlow_93 ?_
  refine lv_if_eq (tgt := 106) hx hb dX6_byFlow_94 rfl (fun c1 => ?_) (fun c1 => ?_)
  · rw [if_pos c1] at h
    refine lv_lconst hx hb dX6_byFlow_106 jx_kl0 ?_
    exact jm_byFlow_b107_ok hX F hr28 _ _ _ _ _ h _ _ _ hP hD hS (lv_sub hl [1, 2, 4] rfl)
  · rw [if_neg c1] at h
    refine lv_lconst hx hb dX6_byFlow_97 jx_kl1 ?_
    refine lv_iload hx hb dX6_byFlow_98 (lv_at hl 4 rfl) ?_
    refine lv_iconst hx hb dX6_byFlow_100 jx_ki1 ?_
    refine lv_iadd hx hb dX6_byFlow_101 ?_
    refine lv_lshl hx hb dX6_byFlow_102 rfl ?_
    refine lv_goto (tgt := 107) hx hb dX6_byFlow_103 rfl ?_
    exact jm_byFlow_b107_ok hX F hr28 _ _ _ _ _ h _ _ _ hP hD hS (lv_sub hl [1, 2, 4] rfl)
theorem jm_byFlow_L28_ok {out : Int64 × jm_S} (hX : jm_Ok p R s m args meth c A D ck ad sa cX6_byFlow 9 (some .long) 7) (F : Nat) {r28 : Int64 × Int64 × Int32 × jm_S → Option (Int64 × jm_S)} (hr28 : ∀ a, r28 a = some out → jm_J p l e R s m args below meth c A D ck ad 9 (jm_Ql below args s A D ck ad sa out) 28 [(0, .ref (ad 0)), (2, .long a.1), (4, .long a.2.1), (6, .int a.2.2.1)] [] a.2.2.2) (x2 : Int64) (x4 : Int64) (x6 : Int32) (S : jm_S) (h : jm_byFlow_L28 F r28 x2 x4 x6 S = some out) : jm_J p l e R s m args below meth c A D ck ad 9 (jm_Ql below args s A D ck ad sa out) 28 [(0, .ref (ad 0)), (2, .long x2), (4, .long x4), (6, .int x6)] [] S := by
  intro H locs ls hP hD hS hl
  have hX0 := hX
  obtain ⟨hx, hb, hml, hown, hts, hlk, hr, hlv, hK, hZ⟩ := hX0
  unfold jm_byFlow_L28 at h
  refine lv_iload hx hb dX6_byFlow_28 (lv_at hl 3 rfl) ?_
  refine lv_iconst hx hb dX6_byFlow_30 jx_ki1 ?_
  refine lv_iadd hx hb dX6_byFlow_31 ?_
  refine lv_aload_n hx hb dX6_byFlow_32 rfl (lv_at hl 0 rfl) ?_
  obtain ⟨q1, eq1, h⟩ := jx_bi_some h
  refine jm_callI hx hb hml hown hts hlv hK hZ (jm_orders_met eq1) jm_orders_g jm_orders_d (As := []) (Nat.le_of_ble_eq_true rfl) (Nat.le_of_ble_eq_true rfl) hP hD hS hl.1 rfl rfl (lv_room (Nat.le_of_ble_eq_true rfl)) dX6_byFlow_33 (fun H locs hP hD hS => ?_)
  refine lv_icmp_ge (tgt := 116) hx hb dX6_byFlow_36 rfl (fun c2 => ?_) (fun c2 => ?_)
  · rw [if_pos c2] at h
    refine lv_lload hx hb dX6_byFlow_116 (lv_at hl 2 rfl) ?_
    exact jm_lret hx hb hr hlk hK hZ hP hD hS h dX6_byFlow_118
  · rw [if_neg c2] at h
    refine lv_aload_n hx hb dX6_byFlow_39 rfl (lv_at hl 0 rfl) ?_
    refine lv_iload hx hb dX6_byFlow_40 (lv_at hl 3 rfl) ?_
    obtain ⟨q3, eq3, h⟩ := jx_bi_some h
    refine jm_callI hx hb hml hown hts hlv hK hZ (jm_isCall_met eq3) jm_isCall_g jm_isCall_d (As := [.int x6]) (Nat.le_of_ble_eq_true rfl) (Nat.le_of_ble_eq_true rfl) hP hD hS hl.1 rfl rfl (lv_room (Nat.le_of_ble_eq_true rfl)) dX6_byFlow_42 (fun H locs hP hD hS => ?_)
    refine lv_if_ne (tgt := 51) hx hb dX6_byFlow_45 rfl (fun c4 => ?_) (fun c4 => ?_)
    · rw [if_neg c4] at h
      refine lv_aload_n hx hb dX6_byFlow_51 rfl (lv_at hl 0 rfl) ?_
      refine lv_iload hx hb dX6_byFlow_52 (lv_at hl 3 rfl) ?_
      obtain ⟨q5, eq5, h⟩ := jx_bi_some h
      refine jm_callI hx hb hml hown hts hlv hK hZ (jm_wordOf_met eq5) jm_wordOf_g jm_wordOf_d (As := [.int x6]) (Nat.le_of_ble_eq_true rfl) (Nat.le_of_ble_eq_true rfl) hP hD hS hl.1 rfl rfl (lv_room (Nat.le_of_ble_eq_true rfl)) dX6_byFlow_54 (fun H locs hP hD hS => ?_)
      refine lv_iconst hx hb dX6_byFlow_57 jx_ki5 ?_
      refine lv_icmp_ne (tgt := 78) hx hb dX6_byFlow_58 rfl (fun c6 => ?_) (fun c6 => ?_)
      · rw [if_neg c6] at h
        refine lv_aload_n hx hb dX6_byFlow_78 rfl (lv_at hl 0 rfl) ?_
        refine lv_iload hx hb dX6_byFlow_79 (lv_at hl 3 rfl) ?_
        obtain ⟨q7, eq7, h⟩ := jx_bi_some h
        refine jm_callL hx hb hml hown hts hlv hK hZ (jm_throughFlow_met eq7) jm_throughFlow_g jm_throughFlow_d (As := [.int x6]) (Nat.le_of_ble_eq_true rfl) (Nat.le_of_ble_eq_true rfl) hP hD hS hl.1 rfl rfl (lv_room (Nat.le_of_ble_eq_true rfl)) dX6_byFlow_81 (fun H locs hP hD hS => ?_)
        exact jm_byFlow_b84_ok hX F hr28 _ _ _ _ _ h _ _ _ hP hD hS hl
      · rw [if_pos c6] at h
        refine lv_lconst hx hb dX6_byFlow_61 jx_kl1 ?_
        refine lv_aload_n hx hb dX6_byFlow_62 rfl (lv_at hl 0 rfl) ?_
        refine lv_iload hx hb dX6_byFlow_63 (lv_at hl 3 rfl) ?_
        refine lv_iconst hx hb dX6_byFlow_65 jx_ki4 ?_
        obtain ⟨q8, eq8, h⟩ := jx_bi_some h
        refine jm_callI hx hb hml hown hts hlv hK hZ (jm_of_met eq8) jm_of_g jm_of_d (As := [.int x6, .int (nI 4)]) (Nat.le_of_ble_eq_true rfl) (Nat.le_of_ble_eq_true rfl) hP hD hS hl.1 rfl rfl (lv_room (Nat.le_of_ble_eq_true rfl)) dX6_byFlow_66 (fun H locs hP hD hS => ?_)
        refine lv_lshl hx hb dX6_byFlow_69 rfl ?_
        refine lv_aload_n hx hb dX6_byFlow_70 rfl (lv_at hl 0 rfl) ?_
        obtain ⟨q9, eq9, h⟩ := jx_bi_some h
        refine jm_callL hx hb hml hown hts hlv hK hZ (jm_all_met eq9) jm_all_g jm_all_d (As := []) (Nat.le_of_ble_eq_true rfl) (Nat.le_of_ble_eq_true rfl) hP hD hS hl.1 rfl rfl (lv_room (Nat.le_of_ble_eq_true rfl)) dX6_byFlow_71 (fun H locs hP hD hS => ?_)
        refine lv_land hx hb dX6_byFlow_74 ?_
        refine lv_goto (tgt := 84) hx hb dX6_byFlow_75 rfl ?_
        exact jm_byFlow_b84_ok hX F hr28 _ _ _ _ _ h _ _ _ hP hD hS hl
    · rw [if_pos c4] at h
      refine lv_goto (tgt := 110) hx hb dX6_byFlow_48 rfl ?_
      exact jm_byFlow_b110_ok hX F hr28 _ _ _ _ h _ _ _ hP hD hS hl
theorem jm_byFlow_h28_ok {out : Int64 × jm_S} (hX : jm_Ok p R s m args meth c A D ck ad sa cX6_byFlow 9 (some .long) 7) (F : Nat) (n : Nat) (a : Int64 × Int64 × Int32 × jm_S) (h : jm_byFlow_h28 F n a = some out) : jm_J p l e R s m args below meth c A D ck ad 9 (jm_Ql below args s A D ck ad sa out) 28 [(0, .ref (ad 0)), (2, .long a.1), (4, .long a.2.1), (6, .int a.2.2.1)] [] a.2.2.2 :=
  jx_loop_ind (J := fun a => jm_J p l e R s m args below meth c A D ck ad 9 (jm_Ql below args s A D ck ad sa out) 28 [(0, .ref (ad 0)), (2, .long a.1), (4, .long a.2.1), (6, .int a.2.2.1)] [] a.2.2.2) (fun r hr a h => jm_byFlow_L28_ok hX F hr a.1 a.2.1 a.2.2.1 a.2.2.2 h) n a h
theorem jm_byFlow_ok {out : Int64 × jm_S} (hX : jm_Ok p R s m args meth c A D ck ad sa cX6_byFlow 9 (some .long) 7) (F : Nat) (x1 : Int32) (S : jm_S) (h : jm_byFlow F x1 S = some out) : jm_J p l e R s m args below meth c A D ck ad 9 (jm_Ql below args s A D ck ad sa out) 0 [(0, .ref (ad 0)), (1, .int x1)] [] S := by
  intro H locs ls hP hD hS hl
  have hX0 := hX
  obtain ⟨hx, hb, hml, hown, hts, hlk, hr, hlv, hK, hZ⟩ := hX0
  unfold jm_byFlow at h
  refine lv_aload_n hx hb dX6_byFlow_0 rfl (lv_at hl 0 rfl) ?_
  refine lv_iload_n hx hb dX6_byFlow_1 rfl (lv_at hl 1 rfl) ?_
  obtain ⟨q1, eq1, h⟩ := jx_bi_some h
  refine jm_callI hx hb hml hown hts hlv hK hZ (jm_wordOf_met eq1) jm_wordOf_g jm_wordOf_d (As := [.int x1]) (Nat.le_of_ble_eq_true rfl) (Nat.le_of_ble_eq_true rfl) hP hD hS hl.1 rfl rfl (lv_room (Nat.le_of_ble_eq_true rfl)) dX6_byFlow_2 (fun H locs hP hD hS => ?_)
  refine lv_bipush hx hb dX6_byFlow_5 jx_kb7 ?_
  refine lv_icmp_eq (tgt := 16) hx hb dX6_byFlow_7 rfl (fun c2 => ?_) (fun c2 => ?_)
  · rw [if_pos c2] at h
    refine lv_aload_n hx hb dX6_byFlow_16 rfl (lv_at hl 0 rfl) ?_
    refine lv_iload_n hx hb dX6_byFlow_17 rfl (lv_at hl 1 rfl) ?_
    obtain ⟨q3, eq3, h⟩ := jx_bi_some h
    refine jm_callL hx hb hml hown hts hlv hK hZ (jm_comesTo_met eq3) jm_comesTo_g jm_comesTo_d (As := [.int x1]) (Nat.le_of_ble_eq_true rfl) (Nat.le_of_ble_eq_true rfl) hP hD hS hl.1 rfl rfl (lv_room (Nat.le_of_ble_eq_true rfl)) dX6_byFlow_18 (fun H locs hP hD hS => ?_)
    obtain ⟨y4, ey4, h⟩ := jx_nx_some h
    refine jx_topl ey4 ?_
    refine lv_lstore_n (lv' := [(2, .long y4), (0, .ref (ad 0)), (1, .int x1)]) hx hb dX6_byFlow_21 rfl hl (Nat.le_of_ble_eq_true rfl) rfl (fun ls hl => ?_)
    refine lv_lconst hx hb dX6_byFlow_22 jx_kl0 ?_
    obtain ⟨y5, ey5, h⟩ := jx_nx_some h
    refine jx_topl ey5 ?_
    refine lv_lstore (lv' := [(4, .long y5), (2, .long y4), (0, .ref (ad 0)), (1, .int x1)]) hx hb dX6_byFlow_23 hl (Nat.le_of_ble_eq_true rfl) rfl (fun ls hl => ?_)
    refine lv_iconst hx hb dX6_byFlow_25 jx_ki0 ?_
    obtain ⟨y6, ey6, h⟩ := jx_nx_some h
    refine jx_topi ey6 ?_
    refine lv_istore (lv' := [(6, .int y6), (4, .long y5), (2, .long y4), (0, .ref (ad 0)), (1, .int x1)]) hx hb dX6_byFlow_26 hl (Nat.le_of_ble_eq_true rfl) rfl (fun ls hl => ?_)
    exact jm_byFlow_h28_ok hX F F _ h _ _ _ hP hD hS (lv_sub hl [3, 2, 1, 0] rfl)
  · rw [if_neg c2] at h
    refine lv_aload_n hx hb dX6_byFlow_10 rfl (lv_at hl 0 rfl) ?_
    refine lv_iload_n hx hb dX6_byFlow_11 rfl (lv_at hl 1 rfl) ?_
    obtain ⟨q7, eq7, h⟩ := jx_bi_some h
    refine jm_callL hx hb hml hown hts hlv hK hZ (jm_throughFlow_met eq7) jm_throughFlow_g jm_throughFlow_d (As := [.int x1]) (Nat.le_of_ble_eq_true rfl) (Nat.le_of_ble_eq_true rfl) hP hD hS hl.1 rfl rfl (lv_room (Nat.le_of_ble_eq_true rfl)) dX6_byFlow_12 (fun H locs hP hD hS => ?_)
    exact jm_lret hx hb hr hlk hK hZ hP hD hS h dX6_byFlow_15
theorem jm_byFlow_met {l : Launch} {D : va_G} {ck : Nat → ClassId} {ad sa : Nat → Nat} {A : Nat → Prop} {F : Nat} {x1 : Int32} {S : jm_S} {out : Int64 × jm_S} (h : jm_byFlow F x1 S = some out) : jm_Ml l D ck ad sa A yX6_byFlow cX6_byFlow 9 (some .long) 7 [.int x1] S out :=
  jm_Ml_of ⟨by decide, rfl, Nat.le_of_ble_eq_true rfl⟩ (fun hX => jm_byFlow_ok hX F x1 S h)
theorem jm_flows_d : yX6_flows.cls = RX6 ∧ yX6_flows.cls ≠ "java/lang/invoke/MethodHandle" ∧ yX6_flows.cls ≠ "java/lang/invoke/VarHandle" ∧ (parseMethodDescriptor yX6_flows.desc).map (fun d => d.parameters.length) = some 0 := by decide +kernel
theorem jm_flows_g : GoodIn lw_all (wsV RX6 269 RX6 yX6_flows (ws_ yX6_flows cX6_flows 5 none)) := lw_V q1847 q1849 qs59 q110 q1850
theorem jm_flows_b174_ok {out : jm_S} (hX : jm_Ok p R s m args meth c A D ck ad sa cX6_flows 5 none 8) (F : Nat) {r30 : Int32 × jm_S → Option (jm_S)} (hr30 : ∀ a, r30 a = some out → jm_J p l e R s m args below meth c A D ck ad 5 (jm_Qv below args s A D ck ad sa out) 30 [(0, .ref (ad 0)), (1, .int a.1)] [] a.2) {r38 : Int32 × Int32 × jm_S → Option (jm_S)} (hr38 : ∀ a, r38 a = some out → jm_J p l e R s m args below meth c A D ck ad 5 (jm_Qv below args s A D ck ad sa out) 38 [(0, .ref (ad 0)), (1, .int a.1), (2, .int a.2.1)] [] a.2.2) (x1 : Int32) (x2 : Int32) (S : jm_S) (h : jm_flows_b174 F r30 r38 x1 x2 S = some out) : jm_J p l e R s m args below meth c A D ck ad 5 (jm_Qv below args s A D ck ad sa out) 174 [(0, .ref (ad 0)), (1, .int x1), (2, .int x2)] [] S := by
  intro H locs ls hP hD hS hl
  have hX0 := hX
  obtain ⟨hx, hb, hml, hown, hts, hlk, hr, hlv, hK, hZ⟩ := hX0
  unfold jm_flows_b174 at h
  obtain ⟨y1, ey1, h⟩ := jx_nx_some h
  refine lv_iinc (v := y1) (lv' := [(2, .int y1), (0, .ref (ad 0)), (1, .int x1)]) hx hb dX6_flows_174 hl (k := 2) rfl (jx_inc jx_ki1 ey1) (Nat.le_of_ble_eq_true rfl) rfl (fun ls hl => ?_)
  refine lv_goto (tgt := 38) hx hb dX6_flows_177 rfl ?_
  exact hr38 _ h _ _ _ hP hD hS (lv_sub hl [1, 2, 0] rfl)
theorem jm_flows_b118_ok {out : jm_S} (hX : jm_Ok p R s m args meth c A D ck ad sa cX6_flows 5 none 8) (F : Nat) {r30 : Int32 × jm_S → Option (jm_S)} (hr30 : ∀ a, r30 a = some out → jm_J p l e R s m args below meth c A D ck ad 5 (jm_Qv below args s A D ck ad sa out) 30 [(0, .ref (ad 0)), (1, .int a.1)] [] a.2) {r38 : Int32 × Int32 × jm_S → Option (jm_S)} (hr38 : ∀ a, r38 a = some out → jm_J p l e R s m args below meth c A D ck ad 5 (jm_Qv below args s A D ck ad sa out) 38 [(0, .ref (ad 0)), (1, .int a.1), (2, .int a.2.1)] [] a.2.2) (x1 : Int32) (x2 : Int32) (x3 : Int32) (S : jm_S) (h : jm_flows_b118 F r30 r38 x1 x2 x3 S = some out) : jm_J p l e R s m args below meth c A D ck ad 5 (jm_Qv below args s A D ck ad sa out) 118 [(0, .ref (ad 0)), (1, .int x1), (2, .int x2), (3, .int x3)] [] S := by
  intro H locs ls hP hD hS hl
  have hX0 := hX
  obtain ⟨hx, hb, hml, hown, hts, hlk, hr, hlv, hK, hZ⟩ := hX0
  unfold jm_flows_b118 at h
  refine lv_aload_n hx hb dX6_flows_118 rfl (lv_at hl 0 rfl) ?_
  refine jm_get hx hb hts hown hK hP jm_f13 (by decide) jm_g13 dX6_flows_119 ?_
  refine lv_iload_n hx hb dX6_flows_122 rfl (lv_at hl 3 rfl) ?_
  refine lv_iconst hx hb dX6_flows_123 jx_ki1 ?_
  obtain ⟨j1, ej1, bj1, h⟩ := jx_ga_some h
  obtain ⟨S2, eS2, h⟩ := jx_nx_some h
  refine jm_zast hx hb hK hP hD hS jm_a13 (fun f => jm_u13 f) ej1 bj1 eS2 dX6_flows_124 (fun H locs hP hD hS => ?_)
  refine lv_goto (tgt := 174) hx hb dX6_flows_125 rfl ?_
  exact jm_flows_b174_ok hX F hr30 hr38 _ _ _ h _ _ _ hP hD hS (lv_sub hl [0, 1, 2] rfl)
theorem jm_flows_b173_ok {out : jm_S} (hX : jm_Ok p R s m args meth c A D ck ad sa cX6_flows 5 none 8) (F : Nat) {r30 : Int32 × jm_S → Option (jm_S)} (hr30 : ∀ a, r30 a = some out → jm_J p l e R s m args below meth c A D ck ad 5 (jm_Qv below args s A D ck ad sa out) 30 [(0, .ref (ad 0)), (1, .int a.1)] [] a.2) {r38 : Int32 × Int32 × jm_S → Option (jm_S)} (hr38 : ∀ a, r38 a = some out → jm_J p l e R s m args below meth c A D ck ad 5 (jm_Qv below args s A D ck ad sa out) 38 [(0, .ref (ad 0)), (1, .int a.1), (2, .int a.2.1)] [] a.2.2) (x1 : Int32) (x2 : Int32) (k0 : Int32) (k1 : Int32) (S : jm_S) (h : jm_flows_b173 F r30 r38 x1 x2 k0 k1 S = some out) : jm_J p l e R s m args below meth c A D ck ad 5 (jm_Qv below args s A D ck ad sa out) 173 [(0, .ref (ad 0)), (1, .int x1), (2, .int x2)] [.int k0, .int k1, .ref (ad 13)] S := by
  intro H locs ls hP hD hS hl
  have hX0 := hX
  obtain ⟨hx, hb, hml, hown, hts, hlk, hr, hlv, hK, hZ⟩ := hX0
  unfold jm_flows_b173 at h
  obtain ⟨j1, ej1, bj1, h⟩ := jx_ga_some h
  obtain ⟨S2, eS2, h⟩ := jx_nx_some h
  refine jm_zast hx hb hK hP hD hS jm_a13 (fun f => jm_u13 f) ej1 bj1 eS2 dX6_flows_173 (fun H locs hP hD hS => ?_)
  exact jm_flows_b174_ok hX F hr30 hr38 _ _ _ h _ _ _ hP hD hS hl
theorem jm_flows_b168_ok {out : jm_S} (hX : jm_Ok p R s m args meth c A D ck ad sa cX6_flows 5 none 8) (F : Nat) {r30 : Int32 × jm_S → Option (jm_S)} (hr30 : ∀ a, r30 a = some out → jm_J p l e R s m args below meth c A D ck ad 5 (jm_Qv below args s A D ck ad sa out) 30 [(0, .ref (ad 0)), (1, .int a.1)] [] a.2) {r38 : Int32 × Int32 × jm_S → Option (jm_S)} (hr38 : ∀ a, r38 a = some out → jm_J p l e R s m args below meth c A D ck ad 5 (jm_Qv below args s A D ck ad sa out) 38 [(0, .ref (ad 0)), (1, .int a.1), (2, .int a.2.1)] [] a.2.2) (x1 : Int32) (x2 : Int32) (k0 : Int32) (S : jm_S) (h : jm_flows_b168 F r30 r38 x1 x2 k0 S = some out) : jm_J p l e R s m args below meth c A D ck ad 5 (jm_Qv below args s A D ck ad sa out) 168 [(0, .ref (ad 0)), (1, .int x1), (2, .int x2)] [.int k0, .ref (ad 13)] S := by
  intro H locs ls hP hD hS hl
  have hX0 := hX
  obtain ⟨hx, hb, hml, hown, hts, hlk, hr, hlv, hK, hZ⟩ := hX0
  unfold jm_flows_b168 at h
  refine lv_iconst hx hb dX6_flows_168 jx_ki1 ?_
  refine lv_goto (tgt := 173) hx hb dX6_flows_169 rfl ?_
  exact jm_flows_b173_ok hX F hr30 hr38 _ _ _ _ _ h _ _ _ hP hD hS hl
theorem jm_flows_b79_ok {out : jm_S} (hX : jm_Ok p R s m args meth c A D ck ad sa cX6_flows 5 none 8) (F : Nat) {r30 : Int32 × jm_S → Option (jm_S)} (hr30 : ∀ a, r30 a = some out → jm_J p l e R s m args below meth c A D ck ad 5 (jm_Qv below args s A D ck ad sa out) 30 [(0, .ref (ad 0)), (1, .int a.1)] [] a.2) {r38 : Int32 × Int32 × jm_S → Option (jm_S)} (hr38 : ∀ a, r38 a = some out → jm_J p l e R s m args below meth c A D ck ad 5 (jm_Qv below args s A D ck ad sa out) 38 [(0, .ref (ad 0)), (1, .int a.1), (2, .int a.2.1)] [] a.2.2) (x1 : Int32) (x2 : Int32) (x3 : Int32) (S : jm_S) (h : jm_flows_b79 F r30 r38 x1 x2 x3 S = some out) : jm_J p l e R s m args below meth c A D ck ad 5 (jm_Qv below args s A D ck ad sa out) 79 [(0, .ref (ad 0)), (1, .int x1), (2, .int x2), (3, .int x3)] [] S := by
  intro H locs ls hP hD hS hl
  have hX0 := hX
  obtain ⟨hx, hb, hml, hown, hts, hlk, hr, hlv, hK, hZ⟩ := hX0
  unfold jm_flows_b79 at h
  refine lv_aload_n hx hb dX6_flows_79 rfl (lv_at hl 0 rfl) ?_
  refine lv_iload_n hx hb dX6_flows_80 rfl (lv_at hl 2 rfl) ?_
  obtain ⟨q1, eq1, h⟩ := jx_bi_some h
  refine jm_callI hx hb hml hown hts hlv hK hZ (jm_wordOf_met eq1) jm_wordOf_g jm_wordOf_d (As := [.int x2]) (Nat.le_of_ble_eq_true rfl) (Nat.le_of_ble_eq_true rfl) hP hD hS hl.1 rfl rfl (lv_room (Nat.le_of_ble_eq_true rfl)) dX6_flows_81 (fun H locs hP hD hS => ?_)
  refine lv_if_eq (tgt := 90) hx hb dX6_flows_84 rfl (fun c2 => ?_) (fun c2 => ?_)
  · rw [if_pos c2] at h
    refine lv_aload_n hx hb dX6_flows_90 rfl (lv_at hl 0 rfl) ?_
    refine lv_iload_n hx hb dX6_flows_91 rfl (lv_at hl 2 rfl) ?_
    refine lv_bipush hx hb dX6_flows_92 jx_kb6 ?_
    obtain ⟨q3, eq3, h⟩ := jx_bi_some h
    refine jm_callI hx hb hml hown hts hlv hK hZ (jm_of_met eq3) jm_of_g jm_of_d (As := [.int x2, .int (nI 6)]) (Nat.le_of_ble_eq_true rfl) (Nat.le_of_ble_eq_true rfl) hP hD hS hl.1 rfl rfl (lv_room (Nat.le_of_ble_eq_true rfl)) dX6_flows_94 (fun H locs hP hD hS => ?_)
    refine lv_sipush hx hb dX6_flows_97 jx_ks1000 ?_
    refine lv_isub hx hb dX6_flows_100 ?_
    obtain ⟨y4, ey4, h⟩ := jx_nx_some h
    refine jx_topi ey4 ?_
    refine lv_istore (lv' := [(4, .int y4), (0, .ref (ad 0)), (1, .int x1), (2, .int x2), (3, .int x3)]) hx hb dX6_flows_101 hl (Nat.le_of_ble_eq_true rfl) rfl (fun ls hl => ?_)
    refine lv_aload_n hx hb dX6_flows_103 rfl (lv_at hl 1 rfl) ?_
    refine lv_iload_n hx hb dX6_flows_104 rfl (lv_at hl 3 rfl) ?_
    refine lv_bipush hx hb dX6_flows_105 jx_kb8 ?_
    obtain ⟨q5, eq5, h⟩ := jx_bi_some h
    refine jm_callI hx hb hml hown hts hlv hK hZ (jm_of_met eq5) jm_of_g jm_of_d (As := [.int x2, .int (nI 8)]) (Nat.le_of_ble_eq_true rfl) (Nat.le_of_ble_eq_true rfl) hP hD hS hl.1 rfl rfl (lv_room (Nat.le_of_ble_eq_true rfl)) dX6_flows_107 (fun H locs hP hD hS => ?_)
    refine lv_if_ne (tgt := 118) hx hb dX6_flows_110 rfl (fun c6 => ?_) (fun c6 => ?_)
    · rw [if_neg c6] at h
      exact jm_flows_b118_ok hX F hr30 hr38 _ _ _ _ h _ _ _ hP hD hS (lv_sub hl [1, 2, 3, 4] rfl)
    · rw [if_pos c6] at h
      refine lv_iload hx hb dX6_flows_113 (lv_at hl 0 rfl) ?_
      refine lv_if_ge (tgt := 128) hx hb dX6_flows_115 rfl (fun c7 => ?_) (fun c7 => ?_)
      · rw [if_pos c7] at h
        refine lv_aload_n hx hb dX6_flows_128 rfl (lv_at hl 1 rfl) ?_
        refine jm_get hx hb hts hown hK hP jm_f12 (by decide) jm_g12 dX6_flows_129 ?_
        refine lv_iload_n hx hb dX6_flows_132 rfl (lv_at hl 4 rfl) ?_
        refine lv_dup2_11 hx hb dX6_flows_133 rfl rfl ?_
        obtain ⟨j8, ej8, bj8, h⟩ := jx_ga_some h
        refine jm_lald hx hb hK hP jm_a12 ej8 bj8 dX6_flows_134 ?_
        refine lv_aload_n hx hb dX6_flows_135 rfl (lv_at hl 1 rfl) ?_
        refine jm_get hx hb hts hown hK hP jm_f12 (by decide) jm_g12 dX6_flows_136 ?_
        refine lv_iload hx hb dX6_flows_139 (lv_at hl 0 rfl) ?_
        obtain ⟨j9, ej9, bj9, h⟩ := jx_ga_some h
        refine jm_lald hx hb hK hP jm_a12 ej9 bj9 dX6_flows_141 ?_
        refine lv_lor hx hb dX6_flows_142 ?_
        obtain ⟨j10, ej10, bj10, h⟩ := jx_ga_some h
        obtain ⟨S11, eS11, h⟩ := jx_nx_some h
        refine jm_last hx hb hK hP hD hS jm_a12 (fun f => jm_u12 f) ej10 bj10 eS11 dX6_flows_143 (fun H locs hP hD hS => ?_)
        refine lv_aload_n hx hb dX6_flows_144 rfl (lv_at hl 1 rfl) ?_
        refine jm_get hx hb hts hown hK hP jm_f13 (by decide) jm_g13 dX6_flows_145 ?_
        refine lv_iload_n hx hb dX6_flows_148 rfl (lv_at hl 4 rfl) ?_
        refine lv_aload_n hx hb dX6_flows_149 rfl (lv_at hl 1 rfl) ?_
        refine jm_get hx hb hts hown hK hP jm_f13 (by decide) jm_g13 dX6_flows_150 ?_
        refine lv_iload_n hx hb dX6_flows_153 rfl (lv_at hl 4 rfl) ?_
        obtain ⟨j12, ej12, bj12, h⟩ := jx_ga_some h
        refine jm_zald hx hb hK hP jm_a13 ej12 bj12 dX6_flows_154 ?_
        refine lv_if_ne (tgt := 168) hx hb dX6_flows_155 rfl (fun c13 => ?_) (fun c13 => ?_)
        · rw [if_neg c13] at h
          exact jm_flows_b168_ok hX F hr30 hr38 _ _ _ _ h _ _ _ hP hD hS (lv_sub hl [1, 2, 3] rfl)
        · rw [if_pos c13] at h
          refine lv_aload_n hx hb dX6_flows_158 rfl (lv_at hl 1 rfl) ?_
          refine jm_get hx hb hts hown hK hP jm_f13 (by decide) jm_g13 dX6_flows_159 ?_
          refine lv_iload hx hb dX6_flows_162 (lv_at hl 0 rfl) ?_
          obtain ⟨j14, ej14, bj14, h⟩ := jx_ga_some h
          refine jm_zald hx hb hK hP jm_a13 ej14 bj14 dX6_flows_164 ?_
          refine lv_if_eq (tgt := 172) hx hb dX6_flows_165 rfl (fun c15 => ?_) (fun c15 => ?_)
          · rw [if_pos c15] at h
            refine lv_iconst hx hb dX6_flows_172 jx_ki0 ?_
            exact jm_flows_b173_ok hX F hr30 hr38 _ _ _ _ _ h _ _ _ hP hD hS (lv_sub hl [1, 2, 3] rfl)
          · rw [if_neg c15] at h
            exact jm_flows_b168_ok hX F hr30 hr38 _ _ _ _ h _ _ _ hP hD hS (lv_sub hl [1, 2, 3] rfl)
      · rw [if_neg c7] at h
        exact jm_flows_b118_ok hX F hr30 hr38 _ _ _ _ h _ _ _ hP hD hS (lv_sub hl [1, 2, 3, 4] rfl)
  · rw [if_neg c2] at h
    refine lv_goto (tgt := 174) hx hb dX6_flows_87 rfl ?_
    exact jm_flows_b174_ok hX F hr30 hr38 _ _ _ h _ _ _ hP hD hS (lv_sub hl [0, 1, 2] rfl)
theorem jm_flows_L38_ok {out : jm_S} (hX : jm_Ok p R s m args meth c A D ck ad sa cX6_flows 5 none 8) (F : Nat) {r30 : Int32 × jm_S → Option (jm_S)} (hr30 : ∀ a, r30 a = some out → jm_J p l e R s m args below meth c A D ck ad 5 (jm_Qv below args s A D ck ad sa out) 30 [(0, .ref (ad 0)), (1, .int a.1)] [] a.2) {r38 : Int32 × Int32 × jm_S → Option (jm_S)} (hr38 : ∀ a, r38 a = some out → jm_J p l e R s m args below meth c A D ck ad 5 (jm_Qv below args s A D ck ad sa out) 38 [(0, .ref (ad 0)), (1, .int a.1), (2, .int a.2.1)] [] a.2.2) (x1 : Int32) (x2 : Int32) (S : jm_S) (h : jm_flows_L38 F r30 r38 x1 x2 S = some out) : jm_J p l e R s m args below meth c A D ck ad 5 (jm_Qv below args s A D ck ad sa out) 38 [(0, .ref (ad 0)), (1, .int x1), (2, .int x2)] [] S := by
  intro H locs ls hP hD hS hl
  have hX0 := hX
  obtain ⟨hx, hb, hml, hown, hts, hlk, hr, hlv, hK, hZ⟩ := hX0
  unfold jm_flows_L38 at h
  refine lv_iload_n hx hb dX6_flows_38 rfl (lv_at hl 2 rfl) ?_
  refine lv_aload_n hx hb dX6_flows_39 rfl (lv_at hl 0 rfl) ?_
  obtain ⟨q1, eq1, h⟩ := jx_bi_some h
  refine jm_callI hx hb hml hown hts hlv hK hZ (jm_orders_met eq1) jm_orders_g jm_orders_d (As := []) (Nat.le_of_ble_eq_true rfl) (Nat.le_of_ble_eq_true rfl) hP hD hS hl.1 rfl rfl (lv_room (Nat.le_of_ble_eq_true rfl)) dX6_flows_40 (fun H locs hP hD hS => ?_)
  refine lv_icmp_ge (tgt := 180) hx hb dX6_flows_43 rfl (fun c2 => ?_) (fun c2 => ?_)
  · rw [if_pos c2] at h
    obtain ⟨y3, ey3, h⟩ := jx_nx_some h
    refine lv_iinc (v := y3) (lv' := [(1, .int y3), (0, .ref (ad 0)), (2, .int x2)]) hx hb dX6_flows_180 hl (k := 1) rfl (jx_inc jx_ki1 ey3) (Nat.le_of_ble_eq_true rfl) rfl (fun ls hl => ?_)
    refine lv_goto (tgt := 30) hx hb dX6_flows_183 rfl ?_
    exact hr30 _ h _ _ _ hP hD hS (lv_sub hl [1, 0] rfl)
  · rw [if_neg c2] at h
    refine lv_aload_n hx hb dX6_flows_46 rfl (lv_at hl 0 rfl) ?_
    refine lv_iload_n hx hb dX6_flows_47 rfl (lv_at hl 2 rfl) ?_
    refine lv_iconst hx hb dX6_flows_48 jx_ki5 ?_
    obtain ⟨q4, eq4, h⟩ := jx_bi_some h
    refine jm_callI hx hb hml hown hts hlv hK hZ (jm_of_met eq4) jm_of_g jm_of_d (As := [.int x2, .int (nI 5)]) (Nat.le_of_ble_eq_true rfl) (Nat.le_of_ble_eq_true rfl) hP hD hS hl.1 rfl rfl (lv_room (Nat.le_of_ble_eq_true rfl)) dX6_flows_49 (fun H locs hP hD hS => ?_)
    obtain ⟨y5, ey5, h⟩ := jx_nx_some h
    refine jx_topi ey5 ?_
    refine lv_istore_n (lv' := [(3, .int y5), (0, .ref (ad 0)), (1, .int x1), (2, .int x2)]) hx hb dX6_flows_52 rfl hl (Nat.le_of_ble_eq_true rfl) rfl (fun ls hl => ?_)
    refine lv_aload_n hx hb dX6_flows_53 rfl (lv_at hl 1 rfl) ?_
    refine lv_iload_n hx hb dX6_flows_54 rfl (lv_at hl 3 rfl) ?_
    obtain ⟨q6, eq6, h⟩ := jx_bi_some h
    refine jm_callI hx hb hml hown hts hlv hK hZ (jm_wordOf_met eq6) jm_wordOf_g jm_wordOf_d (As := [.int x2]) (Nat.le_of_ble_eq_true rfl) (Nat.le_of_ble_eq_true rfl) hP hD hS hl.1 rfl rfl (lv_room (Nat.le_of_ble_eq_true rfl)) dX6_flows_55 (fun H locs hP hD hS => ?_)
    refine lv_iconst hx hb dX6_flows_58 jx_ki1 ?_
    refine lv_icmp_ne (tgt := 79) hx hb dX6_flows_59 rfl (fun c7 => ?_) (fun c7 => ?_)
    · rw [if_neg c7] at h
      exact jm_flows_b79_ok hX F hr30 hr38 _ _ _ _ h _ _ _ hP hD hS (lv_sub hl [1, 2, 3, 0] rfl)
    · rw [if_pos c7] at h
      refine lv_aload_n hx hb dX6_flows_62 rfl (lv_at hl 1 rfl) ?_
      refine jm_get hx hb hts hown hK hP jm_f12 (by decide) jm_g12 dX6_flows_63 ?_
      refine lv_iload_n hx hb dX6_flows_66 rfl (lv_at hl 0 rfl) ?_
      refine lv_dup2_11 hx hb dX6_flows_67 rfl rfl ?_
      obtain ⟨j8, ej8, bj8, h⟩ := jx_ga_some h
      refine jm_lald hx hb hK hP jm_a12 ej8 bj8 dX6_flows_68 ?_
      refine lv_lconst hx hb dX6_flows_69 jx_kl1 ?_
      refine lv_aload_n hx hb dX6_flows_70 rfl (lv_at hl 1 rfl) ?_
      refine lv_iload_n hx hb dX6_flows_71 rfl (lv_at hl 3 rfl) ?_
      refine lv_iconst hx hb dX6_flows_72 jx_ki4 ?_
      obtain ⟨q9, eq9, h⟩ := jx_bi_some h
      refine jm_callI hx hb hml hown hts hlv hK hZ (jm_of_met eq9) jm_of_g jm_of_d (As := [.int x2, .int (nI 4)]) (Nat.le_of_ble_eq_true rfl) (Nat.le_of_ble_eq_true rfl) hP hD hS hl.1 rfl rfl (lv_room (Nat.le_of_ble_eq_true rfl)) dX6_flows_73 (fun H locs hP hD hS => ?_)
      refine lv_lshl hx hb dX6_flows_76 rfl ?_
      refine lv_lor hx hb dX6_flows_77 ?_
      obtain ⟨j10, ej10, bj10, h⟩ := jx_ga_some h
      obtain ⟨S11, eS11, h⟩ := jx_nx_some h
      refine jm_last hx hb hK hP hD hS jm_a12 (fun f => jm_u12 f) ej10 bj10 eS11 dX6_flows_78 (fun H locs hP hD hS => ?_)
      exact jm_flows_b79_ok hX F hr30 hr38 _ _ _ _ h _ _ _ hP hD hS (lv_sub hl [1, 2, 3, 0] rfl)
theorem jm_flows_h38_ok {out : jm_S} (hX : jm_Ok p R s m args meth c A D ck ad sa cX6_flows 5 none 8) (F : Nat) {r30 : Int32 × jm_S → Option (jm_S)} (hr30 : ∀ a, r30 a = some out → jm_J p l e R s m args below meth c A D ck ad 5 (jm_Qv below args s A D ck ad sa out) 30 [(0, .ref (ad 0)), (1, .int a.1)] [] a.2) (n : Nat) (a : Int32 × Int32 × jm_S) (h : jm_flows_h38 F r30 n a = some out) : jm_J p l e R s m args below meth c A D ck ad 5 (jm_Qv below args s A D ck ad sa out) 38 [(0, .ref (ad 0)), (1, .int a.1), (2, .int a.2.1)] [] a.2.2 :=
  jx_loop_ind (J := fun a => jm_J p l e R s m args below meth c A D ck ad 5 (jm_Qv below args s A D ck ad sa out) 38 [(0, .ref (ad 0)), (1, .int a.1), (2, .int a.2.1)] [] a.2.2) (fun r hr a h => jm_flows_L38_ok hX F hr30 hr a.1 a.2.1 a.2.2 h) n a h
theorem jm_flows_b241_ok {out : jm_S} (hX : jm_Ok p R s m args meth c A D ck ad sa cX6_flows 5 none 8) (F : Nat) {r188 : Int32 × jm_S → Option (jm_S)} (hr188 : ∀ a, r188 a = some out → jm_J p l e R s m args below meth c A D ck ad 5 (jm_Qv below args s A D ck ad sa out) 188 [(0, .ref (ad 0)), (1, .int a.1)] [] a.2) (x1 : Int32) (k0 : Int64) (k1 : Int32) (S : jm_S) (h : jm_flows_b241 F r188 x1 k0 k1 S = some out) : jm_J p l e R s m args below meth c A D ck ad 5 (jm_Qv below args s A D ck ad sa out) 241 [(0, .ref (ad 0)), (1, .int x1)] [.long k0, .int k1, .ref (ad 15)] S := by
  intro H locs ls hP hD hS hl
  have hX0 := hX
  obtain ⟨hx, hb, hml, hown, hts, hlk, hr, hlv, hK, hZ⟩ := hX0
  unfold jm_flows_b241 at h
  obtain ⟨j1, ej1, bj1, h⟩ := jx_ga_some h
  obtain ⟨S2, eS2, h⟩ := jx_nx_some h
  refine jm_last hx hb hK hP hD hS jm_a15 (fun f => jm_u15 f) ej1 bj1 eS2 dX6_flows_241 (fun H locs hP hD hS => ?_)
  obtain ⟨y3, ey3, h⟩ := jx_nx_some h
  refine lv_iinc (v := y3) (lv' := [(1, .int y3), (0, .ref (ad 0))]) hx hb dX6_flows_242 hl (k := 1) rfl (jx_inc jx_ki1 ey3) (Nat.le_of_ble_eq_true rfl) rfl (fun ls hl => ?_)
  refine lv_goto (tgt := 188) hx hb dX6_flows_245 rfl ?_
  exact hr188 _ h _ _ _ hP hD hS (lv_sub hl [1, 0] rfl)
theorem jm_flows_b218_ok {out : jm_S} (hX : jm_Ok p R s m args meth c A D ck ad sa cX6_flows 5 none 8) (F : Nat) {r188 : Int32 × jm_S → Option (jm_S)} (hr188 : ∀ a, r188 a = some out → jm_J p l e R s m args below meth c A D ck ad 5 (jm_Qv below args s A D ck ad sa out) 188 [(0, .ref (ad 0)), (1, .int a.1)] [] a.2) (x1 : Int32) (k0 : Int64) (k1 : Int32) (S : jm_S) (h : jm_flows_b218 F r188 x1 k0 k1 S = some out) : jm_J p l e R s m args below meth c A D ck ad 5 (jm_Qv below args s A D ck ad sa out) 218 [(0, .ref (ad 0)), (1, .int x1)] [.long k0, .int k1, .ref (ad 14)] S := by
  intro H locs ls hP hD hS hl
  have hX0 := hX
  obtain ⟨hx, hb, hml, hown, hts, hlk, hr, hlv, hK, hZ⟩ := hX0
  unfold jm_flows_b218 at h
  obtain ⟨j1, ej1, bj1, h⟩ := jx_ga_some h
  obtain ⟨S2, eS2, h⟩ := jx_nx_some h
  refine jm_last hx hb hK hP hD hS jm_a14 (fun f => jm_u14 f) ej1 bj1 eS2 dX6_flows_218 (fun H locs hP hD hS => ?_)
  refine lv_aload_n hx hb dX6_flows_219 rfl (lv_at hl 0 rfl) ?_
  refine jm_get hx hb hts hown hK hP jm_f15 (by decide) jm_g15 dX6_flows_220 ?_
  refine lv_iload_n hx hb dX6_flows_223 rfl (lv_at hl 1 rfl) ?_
  refine lv_aload_n hx hb dX6_flows_224 rfl (lv_at hl 0 rfl) ?_
  refine lv_iload_n hx hb dX6_flows_225 rfl (lv_at hl 1 rfl) ?_
  obtain ⟨q3, eq3, h⟩ := jx_bi_some h
  refine jm_callI hx hb hml hown hts hlv hK hZ (jm_isJump_met eq3) jm_isJump_g jm_isJump_d (As := [.int x1]) (Nat.le_of_ble_eq_true rfl) (Nat.le_of_ble_eq_true rfl) hP hD hS hl.1 rfl rfl (lv_room (Nat.le_of_ble_eq_true rfl)) dX6_flows_226 (fun H locs hP hD hS => ?_)
  refine lv_if_eq (tgt := 240) hx hb dX6_flows_229 rfl (fun c4 => ?_) (fun c4 => ?_)
  · rw [if_pos c4] at h
    refine lv_lconst hx hb dX6_flows_240 jx_kl0 ?_
    exact jm_flows_b241_ok hX F hr188 _ _ _ _ h _ _ _ hP hD hS hl
  · rw [if_neg c4] at h
    refine lv_aload_n hx hb dX6_flows_232 rfl (lv_at hl 0 rfl) ?_
    refine lv_iload_n hx hb dX6_flows_233 rfl (lv_at hl 1 rfl) ?_
    obtain ⟨q5, eq5, h⟩ := jx_bi_some h
    refine jm_callL hx hb hml hown hts hlv hK hZ (jm_byFlow_met eq5) jm_byFlow_g jm_byFlow_d (As := [.int x1]) (Nat.le_of_ble_eq_true rfl) (Nat.le_of_ble_eq_true rfl) hP hD hS hl.1 rfl rfl (lv_room (Nat.le_of_ble_eq_true rfl)) dX6_flows_234 (fun H locs hP hD hS => ?_)
    refine lv_goto (tgt := 241) hx hb dX6_flows_237 rfl ?_
    exact jm_flows_b241_ok hX F hr188 _ _ _ _ h _ _ _ hP hD hS hl
theorem jm_flows_L188_ok {out : jm_S} (hX : jm_Ok p R s m args meth c A D ck ad sa cX6_flows 5 none 8) (F : Nat) {r188 : Int32 × jm_S → Option (jm_S)} (hr188 : ∀ a, r188 a = some out → jm_J p l e R s m args below meth c A D ck ad 5 (jm_Qv below args s A D ck ad sa out) 188 [(0, .ref (ad 0)), (1, .int a.1)] [] a.2) (x1 : Int32) (S : jm_S) (h : jm_flows_L188 F r188 x1 S = some out) : jm_J p l e R s m args below meth c A D ck ad 5 (jm_Qv below args s A D ck ad sa out) 188 [(0, .ref (ad 0)), (1, .int x1)] [] S := by
  intro H locs ls hP hD hS hl
  have hX0 := hX
  obtain ⟨hx, hb, hml, hown, hts, hlk, hr, hlv, hK, hZ⟩ := hX0
  unfold jm_flows_L188 at h
  refine lv_iload_n hx hb dX6_flows_188 rfl (lv_at hl 1 rfl) ?_
  refine lv_aload_n hx hb dX6_flows_189 rfl (lv_at hl 0 rfl) ?_
  obtain ⟨q1, eq1, h⟩ := jx_bi_some h
  refine jm_callI hx hb hml hown hts hlv hK hZ (jm_orders_met eq1) jm_orders_g jm_orders_d (As := []) (Nat.le_of_ble_eq_true rfl) (Nat.le_of_ble_eq_true rfl) hP hD hS hl.1 rfl rfl (lv_room (Nat.le_of_ble_eq_true rfl)) dX6_flows_190 (fun H locs hP hD hS => ?_)
  refine lv_icmp_ge (tgt := 248) hx hb dX6_flows_193 rfl (fun c2 => ?_) (fun c2 => ?_)
  · rw [if_pos c2] at h
    exact jm_vret hx hb hr hlk hK hZ hP hD hS h dX6_flows_248
  · rw [if_neg c2] at h
    refine lv_aload_n hx hb dX6_flows_196 rfl (lv_at hl 0 rfl) ?_
    refine jm_get hx hb hts hown hK hP jm_f14 (by decide) jm_g14 dX6_flows_197 ?_
    refine lv_iload_n hx hb dX6_flows_200 rfl (lv_at hl 1 rfl) ?_
    refine lv_aload_n hx hb dX6_flows_201 rfl (lv_at hl 0 rfl) ?_
    refine lv_iload_n hx hb dX6_flows_202 rfl (lv_at hl 1 rfl) ?_
    obtain ⟨q3, eq3, h⟩ := jx_bi_some h
    refine jm_callI hx hb hml hown hts hlv hK hZ (jm_isJump_met eq3) jm_isJump_g jm_isJump_d (As := [.int x1]) (Nat.le_of_ble_eq_true rfl) (Nat.le_of_ble_eq_true rfl) hP hD hS hl.1 rfl rfl (lv_room (Nat.le_of_ble_eq_true rfl)) dX6_flows_203 (fun H locs hP hD hS => ?_)
    refine lv_if_eq (tgt := 217) hx hb dX6_flows_206 rfl (fun c4 => ?_) (fun c4 => ?_)
    · rw [if_pos c4] at h
      refine lv_lconst hx hb dX6_flows_217 jx_kl0 ?_
      exact jm_flows_b218_ok hX F hr188 _ _ _ _ h _ _ _ hP hD hS hl
    · rw [if_neg c4] at h
      refine lv_aload_n hx hb dX6_flows_209 rfl (lv_at hl 0 rfl) ?_
      refine lv_iload_n hx hb dX6_flows_210 rfl (lv_at hl 1 rfl) ?_
      obtain ⟨q5, eq5, h⟩ := jx_bi_some h
      refine jm_callL hx hb hml hown hts hlv hK hZ (jm_byKind_met eq5) jm_byKind_g jm_byKind_d (As := [.int x1]) (Nat.le_of_ble_eq_true rfl) (Nat.le_of_ble_eq_true rfl) hP hD hS hl.1 rfl rfl (lv_room (Nat.le_of_ble_eq_true rfl)) dX6_flows_211 (fun H locs hP hD hS => ?_)
      refine lv_goto (tgt := 218) hx hb dX6_flows_214 rfl ?_
      exact jm_flows_b218_ok hX F hr188 _ _ _ _ h _ _ _ hP hD hS hl
theorem jm_flows_h188_ok {out : jm_S} (hX : jm_Ok p R s m args meth c A D ck ad sa cX6_flows 5 none 8) (F : Nat) (n : Nat) (a : Int32 × jm_S) (h : jm_flows_h188 F n a = some out) : jm_J p l e R s m args below meth c A D ck ad 5 (jm_Qv below args s A D ck ad sa out) 188 [(0, .ref (ad 0)), (1, .int a.1)] [] a.2 :=
  jx_loop_ind (J := fun a => jm_J p l e R s m args below meth c A D ck ad 5 (jm_Qv below args s A D ck ad sa out) 188 [(0, .ref (ad 0)), (1, .int a.1)] [] a.2) (fun r hr a h => jm_flows_L188_ok hX F hr a.1 a.2 h) n a h
theorem jm_flows_L30_ok {out : jm_S} (hX : jm_Ok p R s m args meth c A D ck ad sa cX6_flows 5 none 8) (F : Nat) {r30 : Int32 × jm_S → Option (jm_S)} (hr30 : ∀ a, r30 a = some out → jm_J p l e R s m args below meth c A D ck ad 5 (jm_Qv below args s A D ck ad sa out) 30 [(0, .ref (ad 0)), (1, .int a.1)] [] a.2) (x1 : Int32) (S : jm_S) (h : jm_flows_L30 F r30 x1 S = some out) : jm_J p l e R s m args below meth c A D ck ad 5 (jm_Qv below args s A D ck ad sa out) 30 [(0, .ref (ad 0)), (1, .int x1)] [] S := by
  intro H locs ls hP hD hS hl
  have hX0 := hX
  obtain ⟨hx, hb, hml, hown, hts, hlk, hr, hlv, hK, hZ⟩ := hX0
  unfold jm_flows_L30 at h
  refine lv_iload_n hx hb dX6_flows_30 rfl (lv_at hl 1 rfl) ?_
  refine lv_bipush hx hb dX6_flows_31 jx_kb16 ?_
  refine lv_icmp_gt (tgt := 186) hx hb dX6_flows_33 rfl (fun c1 => ?_) (fun c1 => ?_)
  · rw [if_pos c1] at h
    refine lv_iconst hx hb dX6_flows_186 jx_ki0 ?_
    obtain ⟨y2, ey2, h⟩ := jx_nx_some h
    refine jx_topi ey2 ?_
    refine lv_istore_n (lv' := [(1, .int y2), (0, .ref (ad 0))]) hx hb dX6_flows_187 rfl hl (Nat.le_of_ble_eq_true rfl) rfl (fun ls hl => ?_)
    exact jm_flows_h188_ok hX F F _ h _ _ _ hP hD hS (lv_sub hl [1, 0] rfl)
  · rw [if_neg c1] at h
    refine lv_iconst hx hb dX6_flows_36 jx_ki0 ?_
    obtain ⟨y3, ey3, h⟩ := jx_nx_some h
    refine jx_topi ey3 ?_
    refine lv_istore_n (lv' := [(2, .int y3), (0, .ref (ad 0)), (1, .int x1)]) hx hb dX6_flows_37 rfl hl (Nat.le_of_ble_eq_true rfl) rfl (fun ls hl => ?_)
    exact jm_flows_h38_ok hX F hr30 F _ h _ _ _ hP hD hS (lv_sub hl [1, 2, 0] rfl)
theorem jm_flows_h30_ok {out : jm_S} (hX : jm_Ok p R s m args meth c A D ck ad sa cX6_flows 5 none 8) (F : Nat) (n : Nat) (a : Int32 × jm_S) (h : jm_flows_h30 F n a = some out) : jm_J p l e R s m args below meth c A D ck ad 5 (jm_Qv below args s A D ck ad sa out) 30 [(0, .ref (ad 0)), (1, .int a.1)] [] a.2 :=
  jx_loop_ind (J := fun a => jm_J p l e R s m args below meth c A D ck ad 5 (jm_Qv below args s A D ck ad sa out) 30 [(0, .ref (ad 0)), (1, .int a.1)] [] a.2) (fun r hr a h => jm_flows_L30_ok hX F hr a.1 a.2 h) n a h
theorem jm_flows_L2_ok {out : jm_S} (hX : jm_Ok p R s m args meth c A D ck ad sa cX6_flows 5 none 8) (F : Nat) {r2 : Int32 × jm_S → Option (jm_S)} (hr2 : ∀ a, r2 a = some out → jm_J p l e R s m args below meth c A D ck ad 5 (jm_Qv below args s A D ck ad sa out) 2 [(0, .ref (ad 0)), (1, .int a.1)] [] a.2) (x1 : Int32) (S : jm_S) (h : jm_flows_L2 F r2 x1 S = some out) : jm_J p l e R s m args below meth c A D ck ad 5 (jm_Qv below args s A D ck ad sa out) 2 [(0, .ref (ad 0)), (1, .int x1)] [] S := by
  intro H locs ls hP hD hS hl
  have hX0 := hX
  obtain ⟨hx, hb, hml, hown, hts, hlk, hr, hlv, hK, hZ⟩ := hX0
  unfold jm_flows_L2 at h
  refine lv_iload_n hx hb dX6_flows_2 rfl (lv_at hl 1 rfl) ?_
  refine lv_bipush hx hb dX6_flows_3 jx_kb16 ?_
  refine lv_icmp_ge (tgt := 28) hx hb dX6_flows_5 rfl (fun c1 => ?_) (fun c1 => ?_)
  · rw [if_pos c1] at h
    refine lv_iconst hx hb dX6_flows_28 jx_ki0 ?_
    obtain ⟨y2, ey2, h⟩ := jx_nx_some h
    refine jx_topi ey2 ?_
    refine lv_istore_n (lv' := [(1, .int y2), (0, .ref (ad 0))]) hx hb dX6_flows_29 rfl hl (Nat.le_of_ble_eq_true rfl) rfl (fun ls hl => ?_)
    exact jm_flows_h30_ok hX F F _ h _ _ _ hP hD hS (lv_sub hl [1, 0] rfl)
  · rw [if_neg c1] at h
    refine lv_aload_n hx hb dX6_flows_8 rfl (lv_at hl 0 rfl) ?_
    refine jm_get hx hb hts hown hK hP jm_f12 (by decide) jm_g12 dX6_flows_9 ?_
    refine lv_iload_n hx hb dX6_flows_12 rfl (lv_at hl 1 rfl) ?_
    refine lv_lconst hx hb dX6_flows_13 jx_kl0 ?_
    obtain ⟨j3, ej3, bj3, h⟩ := jx_ga_some h
    obtain ⟨S4, eS4, h⟩ := jx_nx_some h
    refine jm_last hx hb hK hP hD hS jm_a12 (fun f => jm_u12 f) ej3 bj3 eS4 dX6_flows_14 (fun H locs hP hD hS => ?_)
    refine lv_aload_n hx hb dX6_flows_15 rfl (lv_at hl 0 rfl) ?_
    refine jm_get hx hb hts hown hK hP jm_f13 (by decide) jm_g13 dX6_flows_16 ?_
    refine lv_iload_n hx hb dX6_flows_19 rfl (lv_at hl 1 rfl) ?_
    refine lv_iconst hx hb dX6_flows_20 jx_ki0 ?_
    obtain ⟨j5, ej5, bj5, h⟩ := jx_ga_some h
    obtain ⟨S6, eS6, h⟩ := jx_nx_some h
    refine jm_zast hx hb hK hP hD hS jm_a13 (fun f => jm_u13 f) ej5 bj5 eS6 dX6_flows_21 (fun H locs hP hD hS => ?_)
    obtain ⟨y7, ey7, h⟩ := jx_nx_some h
    refine lv_iinc (v := y7) (lv' := [(1, .int y7), (0, .ref (ad 0))]) hx hb dX6_flows_22 hl (k := 1) rfl (jx_inc jx_ki1 ey7) (Nat.le_of_ble_eq_true rfl) rfl (fun ls hl => ?_)
    refine lv_goto (tgt := 2) hx hb dX6_flows_25 rfl ?_
    exact hr2 _ h _ _ _ hP hD hS (lv_sub hl [1, 0] rfl)
theorem jm_flows_h2_ok {out : jm_S} (hX : jm_Ok p R s m args meth c A D ck ad sa cX6_flows 5 none 8) (F : Nat) (n : Nat) (a : Int32 × jm_S) (h : jm_flows_h2 F n a = some out) : jm_J p l e R s m args below meth c A D ck ad 5 (jm_Qv below args s A D ck ad sa out) 2 [(0, .ref (ad 0)), (1, .int a.1)] [] a.2 :=
  jx_loop_ind (J := fun a => jm_J p l e R s m args below meth c A D ck ad 5 (jm_Qv below args s A D ck ad sa out) 2 [(0, .ref (ad 0)), (1, .int a.1)] [] a.2) (fun r hr a h => jm_flows_L2_ok hX F hr a.1 a.2 h) n a h
theorem jm_flows_ok {out : jm_S} (hX : jm_Ok p R s m args meth c A D ck ad sa cX6_flows 5 none 8) (F : Nat)  (S : jm_S) (h : jm_flows F  S = some out) : jm_J p l e R s m args below meth c A D ck ad 5 (jm_Qv below args s A D ck ad sa out) 0 [(0, .ref (ad 0))] [] S := by
  intro H locs ls hP hD hS hl
  have hX0 := hX
  obtain ⟨hx, hb, hml, hown, hts, hlk, hr, hlv, hK, hZ⟩ := hX0
  unfold jm_flows at h
  refine lv_iconst hx hb dX6_flows_0 jx_ki0 ?_
  obtain ⟨y1, ey1, h⟩ := jx_nx_some h
  refine jx_topi ey1 ?_
  refine lv_istore_n (lv' := [(1, .int y1), (0, .ref (ad 0))]) hx hb dX6_flows_1 rfl hl (Nat.le_of_ble_eq_true rfl) rfl (fun ls hl => ?_)
  exact jm_flows_h2_ok hX F F _ h _ _ _ hP hD hS (lv_sub hl [1, 0] rfl)
theorem jm_flows_met {l : Launch} {D : va_G} {ck : Nat → ClassId} {ad sa : Nat → Nat} {A : Nat → Prop} {F : Nat}  {S : jm_S} {out : jm_S} (h : jm_flows F  S = some out) : jm_Mv l D ck ad sa A yX6_flows cX6_flows 5 none 8 [] S out :=
  jm_Mv_of ⟨by decide, rfl, Nat.le_of_ble_eq_true rfl⟩ (fun hX => jm_flows_ok hX F  S h)
theorem jm_noJump_d : yX6_noJump.cls = RX6 ∧ yX6_noJump.cls ≠ "java/lang/invoke/MethodHandle" ∧ yX6_noJump.cls ≠ "java/lang/invoke/VarHandle" ∧ (parseMethodDescriptor yX6_noJump.desc).map (fun d => d.parameters.length) = some 1 := by decide +kernel
theorem jm_noJump_g : GoodIn lw_all (wsV RX6 266 RX6 yX6_noJump (ws_ yX6_noJump cX6_noJump 2 (some .boolean))) := lw_V q1843 q1845 qs58 q110 q1846
theorem jm_noJump_b27_ok {out : Int32 × jm_S} (hX : jm_Ok p R s m args meth c A D ck ad sa cX6_noJump 2 (some .boolean) 3) (F : Nat) (k0 : Int32) (S : jm_S) (h : jm_noJump_b27 F k0 S = some out) : jm_J p l e R s m args below meth c A D ck ad 2 (jm_Qi below args s A D ck ad sa out) 27 [(0, .ref (ad 0))] [.int k0, .ref (ad 0)] S := by
  intro H locs ls hP hD hS hl
  have hX0 := hX
  obtain ⟨hx, hb, hml, hown, hts, hlk, hr, hlv, hK, hZ⟩ := hX0
  unfold jm_noJump_b27 at h
  refine lv_iconst hx hb dX6_noJump_27 jx_ki2 ?_
  obtain ⟨q1, eq1, h⟩ := jx_bi_some h
  refine jm_callI hx hb hml hown hts hlv hK hZ (jm_throwsIf_met eq1) jm_throwsIf_g jm_throwsIf_d (As := [.int k0, .int (nI 2)]) (Nat.le_of_ble_eq_true rfl) (Nat.le_of_ble_eq_true rfl) hP hD hS hl.1 rfl rfl (lv_room (Nat.le_of_ble_eq_true rfl)) dX6_noJump_28 (fun H locs hP hD hS => ?_)
  refine lv_if_eq (tgt := 38) hx hb dX6_noJump_31 rfl (fun c2 => ?_) (fun c2 => ?_)
  · rw [if_pos c2] at h
    refine lv_iconst hx hb dX6_noJump_38 jx_ki0 ?_
    exact jm_zret hx hb hr hlk hK hZ hP hD hS jx_nz0 h dX6_noJump_39
  · rw [if_neg c2] at h
    refine lv_iconst hx hb dX6_noJump_34 jx_ki1 ?_
    refine lv_goto (tgt := 39) hx hb dX6_noJump_35 rfl ?_
    exact jm_zret hx hb hr hlk hK hZ hP hD hS jx_nz1 h dX6_noJump_39
theorem jm_noJump_ok {out : Int32 × jm_S} (hX : jm_Ok p R s m args meth c A D ck ad sa cX6_noJump 2 (some .boolean) 3) (F : Nat) (x1 : Int32) (S : jm_S) (h : jm_noJump F x1 S = some out) : jm_J p l e R s m args below meth c A D ck ad 2 (jm_Qi below args s A D ck ad sa out) 0 [(0, .ref (ad 0)), (1, .int x1)] [] S := by
  intro H locs ls hP hD hS hl
  have hX0 := hX
  obtain ⟨hx, hb, hml, hown, hts, hlk, hr, hlv, hK, hZ⟩ := hX0
  unfold jm_noJump at h
  refine lv_aload_n hx hb dX6_noJump_0 rfl (lv_at hl 0 rfl) ?_
  refine lv_aload_n hx hb dX6_noJump_1 rfl (lv_at hl 0 rfl) ?_
  refine lv_iload_n hx hb dX6_noJump_2 rfl (lv_at hl 1 rfl) ?_
  obtain ⟨q1, eq1, h⟩ := jx_bi_some h
  refine jm_callI hx hb hml hown hts hlv hK hZ (jm_noOrder_met eq1) jm_noOrder_g jm_noOrder_d (As := [.int x1]) (Nat.le_of_ble_eq_true rfl) (Nat.le_of_ble_eq_true rfl) hP hD hS hl.1 rfl rfl (lv_room (Nat.le_of_ble_eq_true rfl)) dX6_noJump_3 (fun H locs hP hD hS => ?_)
  refine lv_iconst hx hb dX6_noJump_6 jx_ki1 ?_
  obtain ⟨q2, eq2, h⟩ := jx_bi_some h
  refine jm_callI hx hb hml hown hts hlv hK hZ (jm_throwsIf_met eq2) jm_throwsIf_g jm_throwsIf_d (As := [.int q1.1, .int (nI 1)]) (Nat.le_of_ble_eq_true rfl) (Nat.le_of_ble_eq_true rfl) hP hD hS hl.1 rfl rfl (lv_room (Nat.le_of_ble_eq_true rfl)) dX6_noJump_7 (fun H locs hP hD hS => ?_)
  refine lv_if_ne (tgt := 34) hx hb dX6_noJump_10 rfl (fun c3 => ?_) (fun c3 => ?_)
  · rw [if_neg c3] at h
    refine lv_iconst hx hb dX6_noJump_34 jx_ki1 ?_
    refine lv_goto (tgt := 39) hx hb dX6_noJump_35 rfl ?_
    exact jm_zret hx hb hr hlk hK hZ hP hD hS jx_nz1 h dX6_noJump_39
  · rw [if_pos c3] at h
    refine lv_aload_n hx hb dX6_noJump_13 rfl (lv_at hl 0 rfl) ?_
    refine lv_aload_n hx hb dX6_noJump_14 rfl (lv_at hl 0 rfl) ?_
    refine lv_iload_n hx hb dX6_noJump_15 rfl (lv_at hl 1 rfl) ?_
    obtain ⟨q4, eq4, h⟩ := jx_bi_some h
    refine jm_callI hx hb hml hown hts hlv hK hZ (jm_isJump_met eq4) jm_isJump_g jm_isJump_d (As := [.int x1]) (Nat.le_of_ble_eq_true rfl) (Nat.le_of_ble_eq_true rfl) hP hD hS hl.1 rfl rfl (lv_room (Nat.le_of_ble_eq_true rfl)) dX6_noJump_16 (fun H locs hP hD hS => ?_)
    refine lv_if_ne (tgt := 26) hx hb dX6_noJump_19 rfl (fun c5 => ?_) (fun c5 => ?_)
    · rw [if_neg c5] at h
      refine lv_iconst hx hb dX6_noJump_26 jx_ki0 ?_
      exact jm_noJump_b27_ok hX F _ _ h _ _ _ hP hD hS (lv_sub hl [0] rfl)
    · rw [if_pos c5] at h
      refine lv_iconst hx hb dX6_noJump_22 jx_ki1 ?_
      refine lv_goto (tgt := 27) hx hb dX6_noJump_23 rfl ?_
      exact jm_noJump_b27_ok hX F _ _ h _ _ _ hP hD hS (lv_sub hl [0] rfl)
theorem jm_noJump_met {l : Launch} {D : va_G} {ck : Nat → ClassId} {ad sa : Nat → Nat} {A : Nat → Prop} {F : Nat} {x1 : Int32} {S : jm_S} {out : Int32 × jm_S} (h : jm_noJump F x1 S = some out) : jm_Mi l D ck ad sa A yX6_noJump cX6_noJump 2 (some .boolean) 3 [.int x1] S out :=
  jm_Mi_of ⟨by decide, rfl, Nat.le_of_ble_eq_true rfl⟩ (fun hX => jm_noJump_ok hX F x1 S h)
end

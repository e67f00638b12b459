set_option maxRecDepth 100000
set_option maxHeartbeats 4000000
section
variable {p : Program} {l : Launch} {e : Env} {R : Room} {s : State} {m : MethodId} {args : Array Value} {below : List Frame} {meth : Method} {c : Code} {A : Nat → Prop} {D : va_G} {ck : Nat → ClassId} {ad sa : Nat → Nat} {lv : Nat}
theorem jm_thrown_d : yX6_thrown.cls = RX6 ∧ yX6_thrown.cls ≠ "java/lang/invoke/MethodHandle" ∧ yX6_thrown.cls ≠ "java/lang/invoke/VarHandle" ∧ (parseMethodDescriptor yX6_thrown.desc).map (fun d => d.parameters.length) = some 0 := by decide +kernel
theorem jm_thrown_ok {out : Int32 × jm_S} (hX : jm_Ok p R s m args meth c A D ck ad sa cX6_thrown 1 (some .int) 0) (F : Nat)  (S : jm_S) (h : jm_thrown F  S = some out) : jm_J p l e R s m args below meth c A D ck ad 1 (jm_Qi below args s A D ck ad sa out) 0 [(0, .ref (ad 0))] [] S := by
  intro H locs ls hP hD hS hl
  have hX0 := hX
  obtain ⟨hx, hb, hml, hown, hts, hlk, hr, hlv, hK, hZ⟩ := hX0
  unfold jm_thrown at h
  refine lv_aload_n hx hb dX6_thrown_0 rfl (lv_at hl 0 rfl) ?_
  refine jm_get hx hb hts hown hK hP jm_f0 (by decide) jm_g0 dX6_thrown_1 ?_
  exact jm_iret hx hb hr hlk hK hZ hP hD hS h dX6_thrown_4
theorem jm_thrown_met {l : Launch} {D : va_G} {ck : Nat → ClassId} {ad sa : Nat → Nat} {A : Nat → Prop} {F : Nat}  {S : jm_S} {out : Int32 × jm_S} (h : jm_thrown F  S = some out) : jm_Mi l D ck ad sa A yX6_thrown cX6_thrown 1 (some .int) 0 [] S out :=
  jm_Mi_of ⟨by decide, rfl, Nat.le_of_ble_eq_true rfl⟩ (fun hX => jm_thrown_ok hX F  S h)
theorem jm_image_d : yX6_image.cls = RX6 ∧ yX6_image.cls ≠ "java/lang/invoke/MethodHandle" ∧ yX6_image.cls ≠ "java/lang/invoke/VarHandle" ∧ (parseMethodDescriptor yX6_image.desc).map (fun d => d.parameters.length) = some 0 := by decide +kernel
theorem jm_image_L7_ok {out : jm_S} (hX : jm_Ok p R s m args meth c A D ck ad sa cX6_image 2 none 0) (F : Nat) {r7 : Int32 × jm_S → Option (jm_S)} (hr7 : ∀ a, r7 a = some out → jm_J p l e R s m args below meth c A D ck ad 2 (jm_Qv below args s A D ck ad sa out) 7 [(0, .ref (ad 0)), (1, .int a.1)] [] a.2) (x1 : Int32) (S : jm_S) (h : jm_image_L7 F r7 x1 S = some out) : jm_J p l e R s m args below meth c A D ck ad 2 (jm_Qv below args s A D ck ad sa out) 7 [(0, .ref (ad 0)), (1, .int x1)] [] S := by
  intro H locs ls hP hD hS hl
  have hX0 := hX
  obtain ⟨hx, hb, hml, hown, hts, hlk, hr, hlv, hK, hZ⟩ := hX0
  unfold jm_image_L7 at h
  refine lv_iload_n hx hb dX6_image_7 rfl (lv_at hl 1 rfl) ?_
  refine lv_sipush hx hb dX6_image_8 jx_ks412 ?_
  refine lv_icmp_ge (tgt := 32) hx hb dX6_image_11 rfl (fun c1 => ?_) (fun c1 => ?_)
  · rw [if_pos c1] at h
    refine lv_aload_n hx hb dX6_image_32 rfl (lv_at hl 0 rfl) ?_
    refine lv_iconst hx hb dX6_image_33 jx_ki1 ?_
    obtain ⟨S2, eS2, h⟩ := jx_nx_some h
    refine jm_putZ hx hb hts hown hK hP hD hS eS2 jx_nz1 jm_f3 (by decide) jm_n3 jm_d3 jm_p3 dX6_image_34 (fun H locs hP hD hS => ?_)
    exact jm_vret hx hb hr hlk hK hZ hP hD hS h dX6_image_37
  · rw [if_neg c1] at h
    refine lv_aload_n hx hb dX6_image_14 rfl (lv_at hl 0 rfl) ?_
    refine jm_get hx hb hts hown hK hP jm_f2 (by decide) jm_g2 dX6_image_15 ?_
    refine lv_iload_n hx hb dX6_image_18 rfl (lv_at hl 1 rfl) ?_
    refine lv_aload_n hx hb dX6_image_19 rfl (lv_at hl 0 rfl) ?_
    refine jm_get hx hb hts hown hK hP jm_f1 (by decide) jm_g1 dX6_image_20 ?_
    refine lv_iload_n hx hb dX6_image_23 rfl (lv_at hl 1 rfl) ?_
    obtain ⟨j3, ej3, bj3, h⟩ := jx_ga_some h
    refine jm_iald hx hb hK hP jm_a1 ej3 bj3 dX6_image_24 ?_
    obtain ⟨j4, ej4, bj4, h⟩ := jx_ga_some h
    obtain ⟨S5, eS5, h⟩ := jx_nx_some h
    refine jm_iast hx hb hK hP hD hS jm_a2 (fun f => jm_u2 f) ej4 bj4 eS5 dX6_image_25 (fun H locs hP hD hS => ?_)
    obtain ⟨y6, ey6, h⟩ := jx_nx_some h
    refine lv_iinc (v := y6) (lv' := [(1, .int y6), (0, .ref (ad 0))]) hx hb dX6_image_26 hl (k := 1) rfl (jx_inc jx_ki1 ey6) (Nat.le_of_ble_eq_true rfl) rfl (fun ls hl => ?_)
    refine lv_goto (tgt := 7) hx hb dX6_image_29 rfl ?_
    exact hr7 _ h _ _ _ hP hD hS (lv_sub hl [1, 0] rfl)
theorem jm_image_h7_ok {out : jm_S} (hX : jm_Ok p R s m args meth c A D ck ad sa cX6_image 2 none 0) (F : Nat) (n : Nat) (a : Int32 × jm_S) (h : jm_image_h7 F n a = some out) : jm_J p l e R s m args below meth c A D ck ad 2 (jm_Qv below args s A D ck ad sa out) 7 [(0, .ref (ad 0)), (1, .int a.1)] [] a.2 :=
  jx_loop_ind (J := fun a => jm_J p l e R s m args below meth c A D ck ad 2 (jm_Qv below args s A D ck ad sa out) 7 [(0, .ref (ad 0)), (1, .int a.1)] [] a.2) (fun r hr a h => jm_image_L7_ok hX F hr a.1 a.2 h) n a h
theorem jm_image_ok {out : jm_S} (hX : jm_Ok p R s m args meth c A D ck ad sa cX6_image 2 none 0) (F : Nat)  (S : jm_S) (h : jm_image F  S = some out) : jm_J p l e R s m args below meth c A D ck ad 2 (jm_Qv below args s A D ck ad sa out) 0 [(0, .ref (ad 0))] [] S := by
  intro H locs ls hP hD hS hl
  have hX0 := hX
  obtain ⟨hx, hb, hml, hown, hts, hlk, hr, hlv, hK, hZ⟩ := hX0
  unfold jm_image at h
  refine lv_aload_n hx hb dX6_image_0 rfl (lv_at hl 0 rfl) ?_
  refine lv_iconst hx hb dX6_image_1 jx_ki0 ?_
  obtain ⟨S1, eS1, h⟩ := jx_nx_some h
  refine jm_put hx hb hts hown hK hP hD hS eS1 jm_f0 (by decide) jm_n0 jm_d0 jm_p0 dX6_image_2 (fun H locs hP hD hS => ?_)
  refine lv_iconst hx hb dX6_image_5 jx_ki0 ?_
  obtain ⟨y2, ey2, h⟩ := jx_nx_some h
  refine jx_topi ey2 ?_
  refine lv_istore_n (lv' := [(1, .int y2), (0, .ref (ad 0))]) hx hb dX6_image_6 rfl hl (Nat.le_of_ble_eq_true rfl) rfl (fun ls hl => ?_)
  exact jm_image_h7_ok hX F F _ h _ _ _ hP hD hS (lv_sub hl [1, 0] rfl)
theorem jm_image_met {l : Launch} {D : va_G} {ck : Nat → ClassId} {ad sa : Nat → Nat} {A : Nat → Prop} {F : Nat}  {S : jm_S} {out : jm_S} (h : jm_image F  S = some out) : jm_Mv l D ck ad sa A yX6_image cX6_image 2 none 0 [] S out :=
  jm_Mv_of ⟨by decide, rfl, Nat.le_of_ble_eq_true rfl⟩ (fun hX => jm_image_ok hX F  S h)
theorem jm_back_d : yX6_back.cls = RX6 ∧ yX6_back.cls ≠ "java/lang/invoke/MethodHandle" ∧ yX6_back.cls ≠ "java/lang/invoke/VarHandle" ∧ (parseMethodDescriptor yX6_back.desc).map (fun d => d.parameters.length) = some 0 := by decide +kernel
theorem jm_back_L16_ok {out : Int32 × jm_S} (hX : jm_Ok p R s m args meth c A D ck ad sa cX6_back 2 (some .boolean) 0) (F : Nat) {r16 : Int32 × jm_S → Option (Int32 × jm_S)} (hr16 : ∀ a, r16 a = some out → jm_J p l e R s m args below meth c A D ck ad 2 (jm_Qi below args s A D ck ad sa out) 16 [(0, .ref (ad 0)), (1, .int a.1)] [] a.2) (x1 : Int32) (S : jm_S) (h : jm_back_L16 F r16 x1 S = some out) : jm_J p l e R s m args below meth c A D ck ad 2 (jm_Qi below args s A D ck ad sa out) 16 [(0, .ref (ad 0)), (1, .int x1)] [] S := by
  intro H locs ls hP hD hS hl
  have hX0 := hX
  obtain ⟨hx, hb, hml, hown, hts, hlk, hr, hlv, hK, hZ⟩ := hX0
  unfold jm_back_L16 at h
  refine lv_iload_n hx hb dX6_back_16 rfl (lv_at hl 1 rfl) ?_
  refine lv_sipush hx hb dX6_back_17 jx_ks412 ?_
  refine lv_icmp_ge (tgt := 41) hx hb dX6_back_20 rfl (fun c1 => ?_) (fun c1 => ?_)
  · rw [if_pos c1] at h
    refine lv_iconst hx hb dX6_back_41 jx_ki1 ?_
    exact jm_zret hx hb hr hlk hK hZ hP hD hS jx_nz1 h dX6_back_42
  · rw [if_neg c1] at h
    refine lv_aload_n hx hb dX6_back_23 rfl (lv_at hl 0 rfl) ?_
    refine jm_get hx hb hts hown hK hP jm_f1 (by decide) jm_g1 dX6_back_24 ?_
    refine lv_iload_n hx hb dX6_back_27 rfl (lv_at hl 1 rfl) ?_
    refine lv_aload_n hx hb dX6_back_28 rfl (lv_at hl 0 rfl) ?_
    refine jm_get hx hb hts hown hK hP jm_f2 (by decide) jm_g2 dX6_back_29 ?_
    refine lv_iload_n hx hb dX6_back_32 rfl (lv_at hl 1 rfl) ?_
    obtain ⟨j2, ej2, bj2, h⟩ := jx_ga_some h
    refine jm_iald hx hb hK hP jm_a2 ej2 bj2 dX6_back_33 ?_
    obtain ⟨j3, ej3, bj3, h⟩ := jx_ga_some h
    obtain ⟨S4, eS4, h⟩ := jx_nx_some h
    refine jm_iast hx hb hK hP hD hS jm_a1 (fun f => jm_u1 f) ej3 bj3 eS4 dX6_back_34 (fun H locs hP hD hS => ?_)
    obtain ⟨y5, ey5, h⟩ := jx_nx_some h
    refine lv_iinc (v := y5) (lv' := [(1, .int y5), (0, .ref (ad 0))]) hx hb dX6_back_35 hl (k := 1) rfl (jx_inc jx_ki1 ey5) (Nat.le_of_ble_eq_true rfl) rfl (fun ls hl => ?_)
    refine lv_goto (tgt := 16) hx hb dX6_back_38 rfl ?_
    exact hr16 _ h _ _ _ hP hD hS (lv_sub hl [1, 0] rfl)
theorem jm_back_h16_ok {out : Int32 × jm_S} (hX : jm_Ok p R s m args meth c A D ck ad sa cX6_back 2 (some .boolean) 0) (F : Nat) (n : Nat) (a : Int32 × jm_S) (h : jm_back_h16 F n a = some out) : jm_J p l e R s m args below meth c A D ck ad 2 (jm_Qi below args s A D ck ad sa out) 16 [(0, .ref (ad 0)), (1, .int a.1)] [] a.2 :=
  jx_loop_ind (J := fun a => jm_J p l e R s m args below meth c A D ck ad 2 (jm_Qi below args s A D ck ad sa out) 16 [(0, .ref (ad 0)), (1, .int a.1)] [] a.2) (fun r hr a h => jm_back_L16_ok hX F hr a.1 a.2 h) n a h
theorem jm_back_ok {out : Int32 × jm_S} (hX : jm_Ok p R s m args meth c A D ck ad sa cX6_back 2 (some .boolean) 0) (F : Nat)  (S : jm_S) (h : jm_back F  S = some out) : jm_J p l e R s m args below meth c A D ck ad 2 (jm_Qi below args s A D ck ad sa out) 0 [(0, .ref (ad 0))] [] S := by
  intro H locs ls hP hD hS hl
  have hX0 := hX
  obtain ⟨hx, hb, hml, hown, hts, hlk, hr, hlv, hK, hZ⟩ := hX0
  unfold jm_back at h
  refine lv_aload_n hx hb dX6_back_0 rfl (lv_at hl 0 rfl) ?_
  refine lv_iconst hx hb dX6_back_1 jx_ki0 ?_
  obtain ⟨S1, eS1, h⟩ := jx_nx_some h
  refine jm_put hx hb hts hown hK hP hD hS eS1 jm_f0 (by decide) jm_n0 jm_d0 jm_p0 dX6_back_2 (fun H locs hP hD hS => ?_)
  refine lv_aload_n hx hb dX6_back_5 rfl (lv_at hl 0 rfl) ?_
  refine jm_get hx hb hts hown hK hP jm_f3 (by decide) jm_g3 dX6_back_6 ?_
  refine lv_if_ne (tgt := 14) hx hb dX6_back_9 rfl (fun c2 => ?_) (fun c2 => ?_)
  · rw [if_neg c2] at h
    refine lv_iconst hx hb dX6_back_14 jx_ki0 ?_
    obtain ⟨y3, ey3, h⟩ := jx_nx_some h
    refine jx_topi ey3 ?_
    refine lv_istore_n (lv' := [(1, .int y3), (0, .ref (ad 0))]) hx hb dX6_back_15 rfl hl (Nat.le_of_ble_eq_true rfl) rfl (fun ls hl => ?_)
    exact jm_back_h16_ok hX F F _ h _ _ _ hP hD hS (lv_sub hl [1, 0] rfl)
  · rw [if_pos c2] at h
    refine lv_iconst hx hb dX6_back_12 jx_ki0 ?_
    exact jm_zret hx hb hr hlk hK hZ hP hD hS jx_nz0 h dX6_back_13
theorem jm_back_met {l : Launch} {D : va_G} {ck : Nat → ClassId} {ad sa : Nat → Nat} {A : Nat → Prop} {F : Nat}  {S : jm_S} {out : Int32 × jm_S} (h : jm_back F  S = some out) : jm_Mi l D ck ad sa A yX6_back cX6_back 2 (some .boolean) 0 [] S out :=
  jm_Mi_of ⟨by decide, rfl, Nat.le_of_ble_eq_true rfl⟩ (fun hX => jm_back_ok hX F  S h)
theorem jm_feed_d : yX6_feed.cls = RX6 ∧ yX6_feed.cls ≠ "java/lang/invoke/MethodHandle" ∧ yX6_feed.cls ≠ "java/lang/invoke/VarHandle" ∧ (parseMethodDescriptor yX6_feed.desc).map (fun d => d.parameters.length) = some 5 := by decide +kernel
theorem jm_feed_L60_ok {out : Int32 × jm_S} (hX : jm_Ok p R s m args meth c A D ck ad sa cX6_feed 7 (some .int) 0) (F : Nat) {r60 : Int32 × jm_S → Option (Int32 × jm_S)} (hr60 : ∀ a, r60 a = some out → jm_J p l e R s m args below meth c A D ck ad 7 (jm_Qi below args s A D ck ad sa out) 60 [(0, .ref (ad 0)), (6, .int a.1)] [] a.2) (x6 : Int32) (S : jm_S) (h : jm_feed_L60 F r60 x6 S = some out) : jm_J p l e R s m args below meth c A D ck ad 7 (jm_Qi below args s A D ck ad sa out) 60 [(0, .ref (ad 0)), (6, .int x6)] [] S := by
  intro H locs ls hP hD hS hl
  have hX0 := hX
  obtain ⟨hx, hb, hml, hown, hts, hlk, hr, hlv, hK, hZ⟩ := hX0
  unfold jm_feed_L60 at h
  refine lv_iload hx hb dX6_feed_60 (lv_at hl 1 rfl) ?_
  refine lv_bipush hx hb dX6_feed_62 jx_kb20 ?_
  refine lv_icmp_ge (tgt := 106) hx hb dX6_feed_64 rfl (fun c1 => ?_) (fun c1 => ?_)
  · rw [if_pos c1] at h
    refine lv_aload_n hx hb dX6_feed_106 rfl (lv_at hl 0 rfl) ?_
    refine lv_dup hx hb dX6_feed_107 rfl ?_
    refine jm_get hx hb hts hown hK hP jm_f5 (by decide) jm_g5 dX6_feed_108 ?_
    refine lv_bipush hx hb dX6_feed_111 jx_kb20 ?_
    refine lv_iadd hx hb dX6_feed_113 ?_
    obtain ⟨S2, eS2, h⟩ := jx_nx_some h
    refine jm_put hx hb hts hown hK hP hD hS eS2 jm_f5 (by decide) jm_n5 jm_d5 jm_p5 dX6_feed_114 (fun H locs hP hD hS => ?_)
    refine lv_aload_n hx hb dX6_feed_117 rfl (lv_at hl 0 rfl) ?_
    refine jm_get hx hb hts hown hK hP jm_f5 (by decide) jm_g5 dX6_feed_118 ?_
    exact jm_iret hx hb hr hlk hK hZ hP hD hS h dX6_feed_121
  · rw [if_neg c1] at h
    refine lv_aload_n hx hb dX6_feed_67 rfl (lv_at hl 0 rfl) ?_
    refine jm_get hx hb hts hown hK hP jm_f4 (by decide) jm_g4 dX6_feed_68 ?_
    refine lv_aload_n hx hb dX6_feed_71 rfl (lv_at hl 0 rfl) ?_
    refine jm_get hx hb hts hown hK hP jm_f5 (by decide) jm_g5 dX6_feed_72 ?_
    refine lv_iload hx hb dX6_feed_75 (lv_at hl 1 rfl) ?_
    refine lv_iadd hx hb dX6_feed_77 ?_
    refine lv_aload_n hx hb dX6_feed_78 rfl (lv_at hl 0 rfl) ?_
    refine jm_get hx hb hts hown hK hP jm_f10 (by decide) jm_g10 dX6_feed_79 ?_
    refine lv_iload hx hb dX6_feed_82 (lv_at hl 1 rfl) ?_
    refine lv_iconst hx hb dX6_feed_84 jx_ki4 ?_
    refine lv_idiv hx hb dX6_feed_85 (by decide) ?_
    obtain ⟨j3, ej3, bj3, h⟩ := jx_ga_some h
    refine jm_iald hx hb hK hP jm_a10 ej3 bj3 dX6_feed_86 ?_
    refine lv_bipush hx hb dX6_feed_87 jx_kb24 ?_
    refine lv_bipush hx hb dX6_feed_89 jx_kb8 ?_
    refine lv_iload hx hb dX6_feed_91 (lv_at hl 1 rfl) ?_
    refine lv_iconst hx hb dX6_feed_93 jx_ki4 ?_
    refine lv_irem hx hb dX6_feed_94 (by decide) ?_
    refine lv_imul hx hb dX6_feed_95 ?_
    refine lv_isub hx hb dX6_feed_96 ?_
    refine lv_ishr hx hb dX6_feed_97 ?_
    refine lv_i2b hx hb dX6_feed_98 rfl ?_
    obtain ⟨j4, ej4, bj4, h⟩ := jx_ga_some h
    obtain ⟨S5, eS5, h⟩ := jx_nx_some h
    refine jm_bast hx hb hK hP hD hS jm_a4 (fun f => jm_u4 f) ej4 bj4 eS5 dX6_feed_99 (fun H locs hP hD hS => ?_)
    obtain ⟨y6, ey6, h⟩ := jx_nx_some h
    refine lv_iinc (v := y6) (lv' := [(6, .int y6), (0, .ref (ad 0))]) hx hb dX6_feed_100 hl (k := 1) rfl (jx_inc jx_ki1 ey6) (Nat.le_of_ble_eq_true rfl) rfl (fun ls hl => ?_)
    refine lv_goto (tgt := 60) hx hb dX6_feed_103 rfl ?_
    exact hr60 _ h _ _ _ hP hD hS (lv_sub hl [1, 0] rfl)
theorem jm_feed_h60_ok {out : Int32 × jm_S} (hX : jm_Ok p R s m args meth c A D ck ad sa cX6_feed 7 (some .int) 0) (F : Nat) (n : Nat) (a : Int32 × jm_S) (h : jm_feed_h60 F n a = some out) : jm_J p l e R s m args below meth c A D ck ad 7 (jm_Qi below args s A D ck ad sa out) 60 [(0, .ref (ad 0)), (6, .int a.1)] [] a.2 :=
  jx_loop_ind (J := fun a => jm_J p l e R s m args below meth c A D ck ad 7 (jm_Qi below args s A D ck ad sa out) 60 [(0, .ref (ad 0)), (6, .int a.1)] [] a.2) (fun r hr a h => jm_feed_L60_ok hX F hr a.1 a.2 h) n a h
theorem jm_feed_ok {out : Int32 × jm_S} (hX : jm_Ok p R s m args meth c A D ck ad sa cX6_feed 7 (some .int) 0) (F : Nat) (x1 : Int32) (x2 : Int32) (x3 : Int32) (x4 : Int32) (x5 : Int32) (S : jm_S) (h : jm_feed F x1 x2 x3 x4 x5 S = some out) : jm_J p l e R s m args below meth c A D ck ad 7 (jm_Qi below args s A D ck ad sa out) 0 [(0, .ref (ad 0)), (1, .int x1), (2, .int x2), (3, .int x3), (4, .int x4), (5, .int x5)] [] S := by
  intro H locs ls hP hD hS hl
  have hX0 := hX
  obtain ⟨hx, hb, hml, hown, hts, hlk, hr, hlv, hK, hZ⟩ := hX0
  unfold jm_feed at h
  refine lv_aload_n hx hb dX6_feed_0 rfl (lv_at hl 0 rfl) ?_
  refine lv_iconst hx hb dX6_feed_1 jx_ki0 ?_
  obtain ⟨S1, eS1, h⟩ := jx_nx_some h
  refine jm_put hx hb hts hown hK hP hD hS eS1 jm_f0 (by decide) jm_n0 jm_d0 jm_p0 dX6_feed_2 (fun H locs hP hD hS => ?_)
  refine lv_aload_n hx hb dX6_feed_5 rfl (lv_at hl 0 rfl) ?_
  refine jm_get hx hb hts hown hK hP jm_f5 (by decide) jm_g5 dX6_feed_6 ?_
  refine lv_bipush hx hb dX6_feed_9 jx_kb20 ?_
  refine lv_iadd hx hb dX6_feed_11 ?_
  refine lv_sipush hx hb dX6_feed_12 jx_ks400 ?_
  refine lv_icmp_le (tgt := 20) hx hb dX6_feed_15 rfl (fun c2 => ?_) (fun c2 => ?_)
  · rw [if_pos c2] at h
    refine lv_aload_n hx hb dX6_feed_20 rfl (lv_at hl 0 rfl) ?_
    refine jm_get hx hb hts hown hK hP jm_f10 (by decide) jm_g10 dX6_feed_21 ?_
    refine lv_iconst hx hb dX6_feed_24 jx_ki0 ?_
    refine lv_iload_n hx hb dX6_feed_25 rfl (lv_at hl 1 rfl) ?_
    obtain ⟨j3, ej3, bj3, h⟩ := jx_ga_some h
    obtain ⟨S4, eS4, h⟩ := jx_nx_some h
    refine jm_iast hx hb hK hP hD hS jm_a10 (fun f => jm_u10 f) ej3 bj3 eS4 dX6_feed_26 (fun H locs hP hD hS => ?_)
    refine lv_aload_n hx hb dX6_feed_27 rfl (lv_at hl 0 rfl) ?_
    refine jm_get hx hb hts hown hK hP jm_f10 (by decide) jm_g10 dX6_feed_28 ?_
    refine lv_iconst hx hb dX6_feed_31 jx_ki1 ?_
    refine lv_iload_n hx hb dX6_feed_32 rfl (lv_at hl 2 rfl) ?_
    obtain ⟨j5, ej5, bj5, h⟩ := jx_ga_some h
    obtain ⟨S6, eS6, h⟩ := jx_nx_some h
    refine jm_iast hx hb hK hP hD hS jm_a10 (fun f => jm_u10 f) ej5 bj5 eS6 dX6_feed_33 (fun H locs hP hD hS => ?_)
    refine lv_aload_n hx hb dX6_feed_34 rfl (lv_at hl 0 rfl) ?_
    refine jm_get hx hb hts hown hK hP jm_f10 (by decide) jm_g10 dX6_feed_35 ?_
    refine lv_iconst hx hb dX6_feed_38 jx_ki2 ?_
    refine lv_iload_n hx hb dX6_feed_39 rfl (lv_at hl 3 rfl) ?_
    obtain ⟨j7, ej7, bj7, h⟩ := jx_ga_some h
    obtain ⟨S8, eS8, h⟩ := jx_nx_some h
    refine jm_iast hx hb hK hP hD hS jm_a10 (fun f => jm_u10 f) ej7 bj7 eS8 dX6_feed_40 (fun H locs hP hD hS => ?_)
    refine lv_aload_n hx hb dX6_feed_41 rfl (lv_at hl 0 rfl) ?_
    refine jm_get hx hb hts hown hK hP jm_f10 (by decide) jm_g10 dX6_feed_42 ?_
    refine lv_iconst hx hb dX6_feed_45 jx_ki3 ?_
    refine lv_iload hx hb dX6_feed_46 (lv_at hl 4 rfl) ?_
    obtain ⟨j9, ej9, bj9, h⟩ := jx_ga_some h
    obtain ⟨S10, eS10, h⟩ := jx_nx_some h
    refine jm_iast hx hb hK hP hD hS jm_a10 (fun f => jm_u10 f) ej9 bj9 eS10 dX6_feed_48 (fun H locs hP hD hS => ?_)
    refine lv_aload_n hx hb dX6_feed_49 rfl (lv_at hl 0 rfl) ?_
    refine jm_get hx hb hts hown hK hP jm_f10 (by decide) jm_g10 dX6_feed_50 ?_
    refine lv_iconst hx hb dX6_feed_53 jx_ki4 ?_
    refine lv_iload hx hb dX6_feed_54 (lv_at hl 5 rfl) ?_
    obtain ⟨j11, ej11, bj11, h⟩ := jx_ga_some h
    obtain ⟨S12, eS12, h⟩ := jx_nx_some h
    refine jm_iast hx hb hK hP hD hS jm_a10 (fun f => jm_u10 f) ej11 bj11 eS12 dX6_feed_56 (fun H locs hP hD hS => ?_)
    refine lv_iconst hx hb dX6_feed_57 jx_ki0 ?_
    obtain ⟨y13, ey13, h⟩ := jx_nx_some h
    refine jx_topi ey13 ?_
    refine lv_istore (lv' := [(6, .int y13), (0, .ref (ad 0)), (1, .int x1), (2, .int x2), (3, .int x3), (4, .int x4), (5, .int x5)]) hx hb dX6_feed_58 hl (Nat.le_of_ble_eq_true rfl) rfl (fun ls hl => ?_)
    exact jm_feed_h60_ok hX F F _ h _ _ _ hP hD hS (lv_sub hl [1, 0] rfl)
  · rw [if_neg c2] at h
    refine lv_iconst hx hb dX6_feed_18 jx_kim1 ?_
    exact jm_iret hx hb hr hlk hK hZ hP hD hS h dX6_feed_19
theorem jm_feed_met {l : Launch} {D : va_G} {ck : Nat → ClassId} {ad sa : Nat → Nat} {A : Nat → Prop} {F : Nat} {x1 : Int32} {x2 : Int32} {x3 : Int32} {x4 : Int32} {x5 : Int32} {S : jm_S} {out : Int32 × jm_S} (h : jm_feed F x1 x2 x3 x4 x5 S = some out) : jm_Mi l D ck ad sa A yX6_feed cX6_feed 7 (some .int) 0 [.int x1, .int x2, .int x3, .int x4, .int x5] S out :=
  jm_Mi_of ⟨by decide, rfl, Nat.le_of_ble_eq_true rfl⟩ (fun hX => jm_feed_ok hX F x1 x2 x3 x4 x5 S h)
theorem jm_end_d : yX6_end.cls = RX6 ∧ yX6_end.cls ≠ "java/lang/invoke/MethodHandle" ∧ yX6_end.cls ≠ "java/lang/invoke/VarHandle" ∧ (parseMethodDescriptor yX6_end.desc).map (fun d => d.parameters.length) = some 1 := by decide +kernel
theorem jm_end_ok {out : Int32 × jm_S} (hX : jm_Ok p R s m args meth c A D ck ad sa cX6_end 2 (some .boolean) 0) (F : Nat) (x1 : Int32) (S : jm_S) (h : jm_end F x1 S = some out) : jm_J p l e R s m args below meth c A D ck ad 2 (jm_Qi below args s A D ck ad sa out) 0 [(0, .ref (ad 0)), (1, .int x1)] [] S := by
  intro H locs ls hP hD hS hl
  have hX0 := hX
  obtain ⟨hx, hb, hml, hown, hts, hlk, hr, hlv, hK, hZ⟩ := hX0
  unfold jm_end at h
  refine lv_aload_n hx hb dX6_end_0 rfl (lv_at hl 0 rfl) ?_
  refine lv_iconst hx hb dX6_end_1 jx_ki0 ?_
  obtain ⟨S1, eS1, h⟩ := jx_nx_some h
  refine jm_put hx hb hts hown hK hP hD hS eS1 jm_f0 (by decide) jm_n0 jm_d0 jm_p0 dX6_end_2 (fun H locs hP hD hS => ?_)
  refine lv_iload_n hx hb dX6_end_5 rfl (lv_at hl 1 rfl) ?_
  refine lv_if_lt (tgt := 17) hx hb dX6_end_6 rfl (fun c2 => ?_) (fun c2 => ?_)
  · rw [if_pos c2] at h
    refine lv_iconst hx hb dX6_end_17 jx_ki0 ?_
    exact jm_zret hx hb hr hlk hK hZ hP hD hS jx_nz0 h dX6_end_18
  · rw [if_neg c2] at h
    refine lv_iload_n hx hb dX6_end_9 rfl (lv_at hl 1 rfl) ?_
    refine lv_aload_n hx hb dX6_end_10 rfl (lv_at hl 0 rfl) ?_
    refine jm_get hx hb hts hown hK hP jm_f5 (by decide) jm_g5 dX6_end_11 ?_
    refine lv_icmp_le (tgt := 19) hx hb dX6_end_14 rfl (fun c3 => ?_) (fun c3 => ?_)
    · rw [if_pos c3] at h
      refine lv_aload_n hx hb dX6_end_19 rfl (lv_at hl 0 rfl) ?_
      refine lv_iload_n hx hb dX6_end_20 rfl (lv_at hl 1 rfl) ?_
      obtain ⟨S4, eS4, h⟩ := jx_nx_some h
      refine jm_put hx hb hts hown hK hP hD hS eS4 jm_f5 (by decide) jm_n5 jm_d5 jm_p5 dX6_end_21 (fun H locs hP hD hS => ?_)
      refine lv_iconst hx hb dX6_end_24 jx_ki1 ?_
      exact jm_zret hx hb hr hlk hK hZ hP hD hS jx_nz1 h dX6_end_25
    · rw [if_neg c3] at h
      refine lv_iconst hx hb dX6_end_17 jx_ki0 ?_
      exact jm_zret hx hb hr hlk hK hZ hP hD hS jx_nz0 h dX6_end_18
theorem jm_end_met {l : Launch} {D : va_G} {ck : Nat → ClassId} {ad sa : Nat → Nat} {A : Nat → Prop} {F : Nat} {x1 : Int32} {S : jm_S} {out : Int32 × jm_S} (h : jm_end F x1 S = some out) : jm_Mi l D ck ad sa A yX6_end cX6_end 2 (some .boolean) 0 [.int x1] S out :=
  jm_Mi_of ⟨by decide, rfl, Nat.le_of_ble_eq_true rfl⟩ (fun hX => jm_end_ok hX F x1 S h)
theorem jm_fault_d : yX6_fault.cls = RX6 ∧ yX6_fault.cls ≠ "java/lang/invoke/MethodHandle" ∧ yX6_fault.cls ≠ "java/lang/invoke/VarHandle" ∧ (parseMethodDescriptor yX6_fault.desc).map (fun d => d.parameters.length) = some 0 := by decide +kernel
theorem jm_fault_ok {out : Int32 × jm_S} (hX : jm_Ok p R s m args meth c A D ck ad sa cX6_fault 1 (some .int) 0) (F : Nat)  (S : jm_S) (h : jm_fault F  S = some out) : jm_J p l e R s m args below meth c A D ck ad 1 (jm_Qi below args s A D ck ad sa out) 0 [(0, .ref (ad 0))] [] S := by
  intro H locs ls hP hD hS hl
  have hX0 := hX
  obtain ⟨hx, hb, hml, hown, hts, hlk, hr, hlv, hK, hZ⟩ := hX0
  unfold jm_fault at h
  refine lv_aload_n hx hb dX6_fault_0 rfl (lv_at hl 0 rfl) ?_
  refine lv_iconst hx hb dX6_fault_1 jx_ki0 ?_
  obtain ⟨S1, eS1, h⟩ := jx_nx_some h
  refine jm_put hx hb hts hown hK hP hD hS eS1 jm_f0 (by decide) jm_n0 jm_d0 jm_p0 dX6_fault_2 (fun H locs hP hD hS => ?_)
  refine lv_aload_n hx hb dX6_fault_5 rfl (lv_at hl 0 rfl) ?_
  refine jm_get hx hb hts hown hK hP jm_f9 (by decide) jm_g9 dX6_fault_6 ?_
  exact jm_iret hx hb hr hlk hK hZ hP hD hS h dX6_fault_9
theorem jm_fault_met {l : Launch} {D : va_G} {ck : Nat → ClassId} {ad sa : Nat → Nat} {A : Nat → Prop} {F : Nat}  {S : jm_S} {out : Int32 × jm_S} (h : jm_fault F  S = some out) : jm_Mi l D ck ad sa A yX6_fault cX6_fault 1 (some .int) 0 [] S out :=
  jm_Mi_of ⟨by decide, rfl, Nat.le_of_ble_eq_true rfl⟩ (fun hX => jm_fault_ok hX F  S h)
theorem jm_orders_d : yX6_orders.cls = RX6 ∧ yX6_orders.cls ≠ "java/lang/invoke/MethodHandle" ∧ yX6_orders.cls ≠ "java/lang/invoke/VarHandle" ∧ (parseMethodDescriptor yX6_orders.desc).map (fun d => d.parameters.length) = some 0 := by decide +kernel
theorem jm_orders_g : GoodIn lw_all (wsV RX6 112 RX6 yX6_orders (ws_ yX6_orders cX6_orders 1 (some .int))) := lw_V q1736 q1738 qs40 q110 q1739
theorem jm_orders_ok {out : Int32 × jm_S} (hX : jm_Ok p R s m args meth c A D ck ad sa cX6_orders 1 (some .int) 0) (F : Nat)  (S : jm_S) (h : jm_orders F  S = some out) : jm_J p l e R s m args below meth c A D ck ad 1 (jm_Qi below args s A D ck ad sa out) 0 [(0, .ref (ad 0))] [] S := by
  intro H locs ls hP hD hS hl
  have hX0 := hX
  obtain ⟨hx, hb, hml, hown, hts, hlk, hr, hlv, hK, hZ⟩ := hX0
  unfold jm_orders at h
  refine lv_aload_n hx hb dX6_orders_0 rfl (lv_at hl 0 rfl) ?_
  refine jm_get hx hb hts hown hK hP jm_f1 (by decide) jm_g1 dX6_orders_1 ?_
  refine lv_iconst hx hb dX6_orders_4 jx_ki0 ?_
  obtain ⟨j1, ej1, bj1, h⟩ := jx_ga_some h
  refine jm_iald hx hb hK hP jm_a1 ej1 bj1 dX6_orders_5 ?_
  exact jm_iret hx hb hr hlk hK hZ hP hD hS h dX6_orders_6
theorem jm_orders_met {l : Launch} {D : va_G} {ck : Nat → ClassId} {ad sa : Nat → Nat} {A : Nat → Prop} {F : Nat}  {S : jm_S} {out : Int32 × jm_S} (h : jm_orders F  S = some out) : jm_Mi l D ck ad sa A yX6_orders cX6_orders 1 (some .int) 0 [] S out :=
  jm_Mi_of ⟨by decide, rfl, Nat.le_of_ble_eq_true rfl⟩ (fun hX => jm_orders_ok hX F  S h)
theorem jm_isAt_d : yX6_isAt.cls = RX6 ∧ yX6_isAt.cls ≠ "java/lang/invoke/MethodHandle" ∧ yX6_isAt.cls ≠ "java/lang/invoke/VarHandle" ∧ (parseMethodDescriptor yX6_isAt.desc).map (fun d => d.parameters.length) = some 2 := by decide +kernel
theorem jm_isAt_g : GoodIn lw_all (wsV RX6 133 RX6 yX6_isAt (ws_ yX6_isAt cX6_isAt 3 (some .boolean))) := lw_V q1724 q1726 qs37 q110 q1727
theorem jm_isAt_ok {out : Int32 × jm_S} (hX : jm_Ok p R s m args meth c A D ck ad sa cX6_isAt 3 (some .boolean) 0) (F : Nat) (x1 : Int32) (x2 : Int32) (S : jm_S) (h : jm_isAt F x1 x2 S = some out) : jm_J p l e R s m args below meth c A D ck ad 3 (jm_Qi below args s A D ck ad sa out) 0 [(0, .ref (ad 0)), (1, .int x1), (2, .int x2)] [] S := by
  intro H locs ls hP hD hS hl
  have hX0 := hX
  obtain ⟨hx, hb, hml, hown, hts, hlk, hr, hlv, hK, hZ⟩ := hX0
  unfold jm_isAt at h
  refine lv_aload_n hx hb dX6_isAt_0 rfl (lv_at hl 0 rfl) ?_
  refine jm_get hx hb hts hown hK hP jm_f6 (by decide) jm_g6 dX6_isAt_1 ?_
  refine lv_aload_n hx hb dX6_isAt_4 rfl (lv_at hl 0 rfl) ?_
  refine jm_get hx hb hts hown hK hP jm_f7 (by decide) jm_g7 dX6_isAt_5 ?_
  refine lv_icmp_ge (tgt := 41) hx hb dX6_isAt_8 rfl (fun c1 => ?_) (fun c1 => ?_)
  · rw [if_pos c1] at h
    refine lv_iconst hx hb dX6_isAt_41 jx_ki0 ?_
    exact jm_zret hx hb hr hlk hK hZ hP hD hS jx_nz0 h dX6_isAt_42
  · rw [if_neg c1] at h
    refine lv_aload_n hx hb dX6_isAt_11 rfl (lv_at hl 0 rfl) ?_
    refine jm_get hx hb hts hown hK hP jm_f4 (by decide) jm_g4 dX6_isAt_12 ?_
    refine lv_aload_n hx hb dX6_isAt_15 rfl (lv_at hl 0 rfl) ?_
    refine jm_get hx hb hts hown hK hP jm_f6 (by decide) jm_g6 dX6_isAt_16 ?_
    obtain ⟨j2, ej2, bj2, h⟩ := jx_ga_some h
    refine jm_bald hx hb hK hP jm_a4 ej2 bj2 dX6_isAt_19 ?_
    refine lv_iload_n hx hb dX6_isAt_20 rfl (lv_at hl 1 rfl) ?_
    refine lv_icmp_lt (tgt := 41) hx hb dX6_isAt_21 rfl (fun c3 => ?_) (fun c3 => ?_)
    · rw [if_pos c3] at h
      refine lv_iconst hx hb dX6_isAt_41 jx_ki0 ?_
      exact jm_zret hx hb hr hlk hK hZ hP hD hS jx_nz0 h dX6_isAt_42
    · rw [if_neg c3] at h
      refine lv_aload_n hx hb dX6_isAt_24 rfl (lv_at hl 0 rfl) ?_
      refine jm_get hx hb hts hown hK hP jm_f4 (by decide) jm_g4 dX6_isAt_25 ?_
      refine lv_aload_n hx hb dX6_isAt_28 rfl (lv_at hl 0 rfl) ?_
      refine jm_get hx hb hts hown hK hP jm_f6 (by decide) jm_g6 dX6_isAt_29 ?_
      obtain ⟨j4, ej4, bj4, h⟩ := jx_ga_some h
      refine jm_bald hx hb hK hP jm_a4 ej4 bj4 dX6_isAt_32 ?_
      refine lv_iload_n hx hb dX6_isAt_33 rfl (lv_at hl 2 rfl) ?_
      refine lv_icmp_gt (tgt := 41) hx hb dX6_isAt_34 rfl (fun c5 => ?_) (fun c5 => ?_)
      · rw [if_pos c5] at h
        refine lv_iconst hx hb dX6_isAt_41 jx_ki0 ?_
        exact jm_zret hx hb hr hlk hK hZ hP hD hS jx_nz0 h dX6_isAt_42
      · rw [if_neg c5] at h
        refine lv_iconst hx hb dX6_isAt_37 jx_ki1 ?_
        refine lv_goto (tgt := 42) hx hb dX6_isAt_38 rfl ?_
        exact jm_zret hx hb hr hlk hK hZ hP hD hS jx_nz1 h dX6_isAt_42
theorem jm_isAt_met {l : Launch} {D : va_G} {ck : Nat → ClassId} {ad sa : Nat → Nat} {A : Nat → Prop} {F : Nat} {x1 : Int32} {x2 : Int32} {S : jm_S} {out : Int32 × jm_S} (h : jm_isAt F x1 x2 S = some out) : jm_Mi l D ck ad sa A yX6_isAt cX6_isAt 3 (some .boolean) 0 [.int x1, .int x2] S out :=
  jm_Mi_of ⟨by decide, rfl, Nat.le_of_ble_eq_true rfl⟩ (fun hX => jm_isAt_ok hX F x1 x2 S h)
theorem jm_blanks_d : yX6_blanks.cls = RX6 ∧ yX6_blanks.cls ≠ "java/lang/invoke/MethodHandle" ∧ yX6_blanks.cls ≠ "java/lang/invoke/VarHandle" ∧ (parseMethodDescriptor yX6_blanks.desc).map (fun d => d.parameters.length) = some 0 := by decide +kernel
theorem jm_blanks_g : GoodIn lw_all (wsV RX6 140 RX6 yX6_blanks (ws_ yX6_blanks cX6_blanks 1 none)) := lw_V q1720 q1722 qs36 q110 q1723
theorem jm_blanks_L0_ok {out : jm_S} (hX : jm_Ok p R s m args meth c A D ck ad sa cX6_blanks 1 none 1) (F : Nat) {r0 : jm_S → Option (jm_S)} (hr0 : ∀ a, r0 a = some out → jm_J p l e R s m args below meth c A D ck ad 1 (jm_Qv below args s A D ck ad sa out) 0 [(0, .ref (ad 0))] [] a)  (S : jm_S) (h : jm_blanks_L0 F r0  S = some out) : jm_J p l e R s m args below meth c A D ck ad 1 (jm_Qv below args s A D ck ad sa out) 0 [(0, .ref (ad 0))] [] S := by
  intro H locs ls hP hD hS hl
  have hX0 := hX
  obtain ⟨hx, hb, hml, hown, hts, hlk, hr, hlv, hK, hZ⟩ := hX0
  unfold jm_blanks_L0 at h
  refine lv_aload_n hx hb dX6_blanks_0 rfl (lv_at hl 0 rfl) ?_
  refine lv_bipush hx hb dX6_blanks_1 jx_kb32 ?_
  refine lv_bipush hx hb dX6_blanks_3 jx_kb32 ?_
  obtain ⟨q1, eq1, h⟩ := jx_bi_some h
  refine jm_callI hx hb hml hown hts hlv hK hZ (jm_isAt_met eq1) jm_isAt_g jm_isAt_d (As := [.int (nI 32), .int (nI 32)]) (Nat.le_of_ble_eq_true rfl) (Nat.le_of_ble_eq_true rfl) hP hD hS hl.1 rfl rfl (lv_room (Nat.le_of_ble_eq_true rfl)) dX6_blanks_5 (fun H locs hP hD hS => ?_)
  refine lv_if_eq (tgt := 24) hx hb dX6_blanks_8 rfl (fun c2 => ?_) (fun c2 => ?_)
  · rw [if_pos c2] at h
    refine lv_aload_n hx hb dX6_blanks_24 rfl (lv_at hl 0 rfl) ?_
    refine lv_aload_n hx hb dX6_blanks_25 rfl (lv_at hl 0 rfl) ?_
    refine jm_get hx hb hts hown hK hP jm_f6 (by decide) jm_g6 dX6_blanks_26 ?_
    obtain ⟨S3, eS3, h⟩ := jx_nx_some h
    refine jm_put hx hb hts hown hK hP hD hS eS3 jm_f8 (by decide) jm_n8 jm_d8 jm_p8 dX6_blanks_29 (fun H locs hP hD hS => ?_)
    exact jm_vret hx hb hr hlk hK hZ hP hD hS h dX6_blanks_32
  · rw [if_neg c2] at h
    refine lv_aload_n hx hb dX6_blanks_11 rfl (lv_at hl 0 rfl) ?_
    refine lv_dup hx hb dX6_blanks_12 rfl ?_
    refine jm_get hx hb hts hown hK hP jm_f6 (by decide) jm_g6 dX6_blanks_13 ?_
    refine lv_iconst hx hb dX6_blanks_16 jx_ki1 ?_
    refine lv_iadd hx hb dX6_blanks_17 ?_
    obtain ⟨S4, eS4, h⟩ := jx_nx_some h
    refine jm_put hx hb hts hown hK hP hD hS eS4 jm_f6 (by decide) jm_n6 jm_d6 jm_p6 dX6_blanks_18 (fun H locs hP hD hS => ?_)
    refine lv_goto (tgt := 0) hx hb dX6_blanks_21 rfl ?_
    exact hr0 _ h _ _ _ hP hD hS hl
theorem jm_blanks_h0_ok {out : jm_S} (hX : jm_Ok p R s m args meth c A D ck ad sa cX6_blanks 1 none 1) (F : Nat) (n : Nat) (a : jm_S) (h : jm_blanks_h0 F n a = some out) : jm_J p l e R s m args below meth c A D ck ad 1 (jm_Qv below args s A D ck ad sa out) 0 [(0, .ref (ad 0))] [] a :=
  jx_loop_ind (J := fun a => jm_J p l e R s m args below meth c A D ck ad 1 (jm_Qv below args s A D ck ad sa out) 0 [(0, .ref (ad 0))] [] a) (fun r hr a h => jm_blanks_L0_ok hX F hr a h) n a h
theorem jm_blanks_ok {out : jm_S} (hX : jm_Ok p R s m args meth c A D ck ad sa cX6_blanks 1 none 1) (F : Nat)  (S : jm_S) (h : jm_blanks F  S = some out) : jm_J p l e R s m args below meth c A D ck ad 1 (jm_Qv below args s A D ck ad sa out) 0 [(0, .ref (ad 0))] [] S := by
  intro H locs ls hP hD hS hl
  have hX0 := hX
  obtain ⟨hx, hb, hml, hown, hts, hlk, hr, hlv, hK, hZ⟩ := hX0
  unfold jm_blanks at h
  exact jm_blanks_h0_ok hX F F _ h _ _ _ hP hD hS hl
theorem jm_blanks_met {l : Launch} {D : va_G} {ck : Nat → ClassId} {ad sa : Nat → Nat} {A : Nat → Prop} {F : Nat}  {S : jm_S} {out : jm_S} (h : jm_blanks F  S = some out) : jm_Mv l D ck ad sa A yX6_blanks cX6_blanks 1 none 1 [] S out :=
  jm_Mv_of ⟨by decide, rfl, Nat.le_of_ble_eq_true rfl⟩ (fun hX => jm_blanks_ok hX F  S h)
theorem jm_isWord_d : yX6_isWord.cls = RX6 ∧ yX6_isWord.cls ≠ "java/lang/invoke/MethodHandle" ∧ yX6_isWord.cls ≠ "java/lang/invoke/VarHandle" ∧ (parseMethodDescriptor yX6_isWord.desc).map (fun d => d.parameters.length) = some 1 := by decide +kernel
theorem jm_isWord_g : GoodIn lw_all (wsV RX6 155 RX6 yX6_isWord (ws_ yX6_isWord cX6_isWord 4 (some .boolean))) := lw_V q1741 q1743 qs41 q110 q1744
theorem jm_isWord_b60_ok {out : Int32 × jm_S} (hX : jm_Ok p R s m args meth c A D ck ad sa cX6_isWord 4 (some .boolean) 6) (F : Nat) {r24 : Nat × Int32 × Int32 × jm_S → Option (Int32 × jm_S)} (hr24 : ∀ a, r24 a = some out → jm_J p l e R s m args below meth c A D ck ad 4 (jm_Qi below args s A D ck ad sa out) 24 [(0, .ref (ad 0)), (1, .ref (sa a.1)), (2, .int a.2.1), (3, .int a.2.2.1)] [] a.2.2.2) (x1 : Nat) (x3 : Int32) (k0 : Int32) (S : jm_S) (h : jm_isWord_b60 F r24 x1 x3 k0 S = some out) : jm_J p l e R s m args below meth c A D ck ad 4 (jm_Qi below args s A D ck ad sa out) 60 [(0, .ref (ad 0)), (1, .ref (sa x1)), (3, .int x3)] [.int k0] S := by
  intro H locs ls hP hD hS hl
  have hX0 := hX
  obtain ⟨hx, hb, hml, hown, hts, hlk, hr, hlv, hK, hZ⟩ := hX0
  unfold jm_isWord_b60 at h
  refine lv_istore_n (lv' := [(2, .int k0), (0, .ref (ad 0)), (1, .ref (sa x1)), (3, .int x3)]) hx hb dX6_isWord_60 rfl hl (Nat.le_of_ble_eq_true rfl) rfl (fun ls hl => ?_)
  obtain ⟨y1, ey1, h⟩ := jx_nx_some h
  refine lv_iinc (v := y1) (lv' := [(3, .int y1), (2, .int k0), (0, .ref (ad 0)), (1, .ref (sa x1))]) hx hb dX6_isWord_61 hl (k := 3) rfl (jx_inc jx_ki1 ey1) (Nat.le_of_ble_eq_true rfl) rfl (fun ls hl => ?_)
  refine lv_goto (tgt := 24) hx hb dX6_isWord_64 rfl ?_
  exact hr24 _ h _ _ _ hP hD hS (lv_sub hl [2, 3, 1, 0] rfl)
theorem jm_isWord_L24_ok {out : Int32 × jm_S} (hX : jm_Ok p R s m args meth c A D ck ad sa cX6_isWord 4 (some .boolean) 6) (F : Nat) {r24 : Nat × Int32 × Int32 × jm_S → Option (Int32 × jm_S)} (hr24 : ∀ a, r24 a = some out → jm_J p l e R s m args below meth c A D ck ad 4 (jm_Qi below args s A D ck ad sa out) 24 [(0, .ref (ad 0)), (1, .ref (sa a.1)), (2, .int a.2.1), (3, .int a.2.2.1)] [] a.2.2.2) (x1 : Nat) (x2 : Int32) (x3 : Int32) (S : jm_S) (h : jm_isWord_L24 F r24 x1 x2 x3 S = some out) : jm_J p l e R s m args below meth c A D ck ad 4 (jm_Qi below args s A D ck ad sa out) 24 [(0, .ref (ad 0)), (1, .ref (sa x1)), (2, .int x2), (3, .int x3)] [] S := by
  intro H locs ls hP hD hS hl
  have hX0 := hX
  obtain ⟨hx, hb, hml, hown, hts, hlk, hr, hlv, hK, hZ⟩ := hX0
  unfold jm_isWord_L24 at h
  refine lv_iload_n hx hb dX6_isWord_24 rfl (lv_at hl 2 rfl) ?_
  refine lv_if_eq (tgt := 67) hx hb dX6_isWord_25 rfl (fun c1 => ?_) (fun c1 => ?_)
  · rw [if_pos c1] at h
    refine lv_iload_n hx hb dX6_isWord_67 rfl (lv_at hl 2 rfl) ?_
    obtain ⟨z2, h⟩ := jx_gz_some h
    exact jm_zret hx hb hr hlk hK hZ hP hD hS z2 h dX6_isWord_68
  · rw [if_neg c1] at h
    refine lv_iload_n hx hb dX6_isWord_28 rfl (lv_at hl 3 rfl) ?_
    refine lv_aload_n hx hb dX6_isWord_29 rfl (lv_at hl 1 rfl) ?_
    obtain ⟨zs3, h⟩ := jx_gs_some h
    refine jm_slen hx hb hml hown hts hlv hZ hS hl.1 (lv_room (Nat.le_of_ble_eq_true rfl)) zs3 (Nat.le_of_ble_eq_true rfl) dX6_isWord_30 ?_
    refine lv_icmp_ge (tgt := 67) hx hb dX6_isWord_33 rfl (fun c4 => ?_) (fun c4 => ?_)
    · rw [if_pos c4] at h
      refine lv_iload_n hx hb dX6_isWord_67 rfl (lv_at hl 2 rfl) ?_
      obtain ⟨z5, h⟩ := jx_gz_some h
      exact jm_zret hx hb hr hlk hK hZ hP hD hS z5 h dX6_isWord_68
    · rw [if_neg c4] at h
      refine lv_aload_n hx hb dX6_isWord_36 rfl (lv_at hl 0 rfl) ?_
      refine jm_get hx hb hts hown hK hP jm_f4 (by decide) jm_g4 dX6_isWord_37 ?_
      refine lv_aload_n hx hb dX6_isWord_40 rfl (lv_at hl 0 rfl) ?_
      refine jm_get hx hb hts hown hK hP jm_f8 (by decide) jm_g8 dX6_isWord_41 ?_
      refine lv_iload_n hx hb dX6_isWord_44 rfl (lv_at hl 3 rfl) ?_
      refine lv_iadd hx hb dX6_isWord_45 ?_
      obtain ⟨j6, ej6, bj6, h⟩ := jx_ga_some h
      refine jm_bald hx hb hK hP jm_a4 ej6 bj6 dX6_isWord_46 ?_
      refine lv_aload_n hx hb dX6_isWord_47 rfl (lv_at hl 1 rfl) ?_
      refine lv_iload_n hx hb dX6_isWord_48 rfl (lv_at hl 3 rfl) ?_
      obtain ⟨zs8, h⟩ := jx_gs_some h
      obtain ⟨j7, ej7, bj7, h⟩ := jx_ga_some h
      refine jm_schar hx hb hml hown hts hlv hZ hS hl.1 (lv_room (Nat.le_of_ble_eq_true rfl)) zs8 (Nat.le_of_ble_eq_true rfl) ej7 bj7 dX6_isWord_49 ?_
      refine lv_icmp_ne (tgt := 59) hx hb dX6_isWord_52 rfl (fun c9 => ?_) (fun c9 => ?_)
      · rw [if_neg c9] at h
        refine lv_iconst hx hb dX6_isWord_59 jx_ki0 ?_
        exact jm_isWord_b60_ok hX F hr24 _ _ _ _ h _ _ _ hP hD hS (lv_sub hl [0, 1, 3] rfl)
      · rw [if_pos c9] at h
        refine lv_iconst hx hb dX6_isWord_55 jx_ki1 ?_
        refine lv_goto (tgt := 60) hx hb dX6_isWord_56 rfl ?_
        exact jm_isWord_b60_ok hX F hr24 _ _ _ _ h _ _ _ hP hD hS (lv_sub hl [0, 1, 3] rfl)
theorem jm_isWord_h24_ok {out : Int32 × jm_S} (hX : jm_Ok p R s m args meth c A D ck ad sa cX6_isWord 4 (some .boolean) 6) (F : Nat) (n : Nat) (a : Nat × Int32 × Int32 × jm_S) (h : jm_isWord_h24 F n a = some out) : jm_J p l e R s m args below meth c A D ck ad 4 (jm_Qi below args s A D ck ad sa out) 24 [(0, .ref (ad 0)), (1, .ref (sa a.1)), (2, .int a.2.1), (3, .int a.2.2.1)] [] a.2.2.2 :=
  jx_loop_ind (J := fun a => jm_J p l e R s m args below meth c A D ck ad 4 (jm_Qi below args s A D ck ad sa out) 24 [(0, .ref (ad 0)), (1, .ref (sa a.1)), (2, .int a.2.1), (3, .int a.2.2.1)] [] a.2.2.2) (fun r hr a h => jm_isWord_L24_ok hX F hr a.1 a.2.1 a.2.2.1 a.2.2.2 h) n a h
theorem jm_isWord_b21_ok {out : Int32 × jm_S} (hX : jm_Ok p R s m args meth c A D ck ad sa cX6_isWord 4 (some .boolean) 6) (F : Nat) (x1 : Nat) (k0 : Int32) (S : jm_S) (h : jm_isWord_b21 F x1 k0 S = some out) : jm_J p l e R s m args below meth c A D ck ad 4 (jm_Qi below args s A D ck ad sa out) 21 [(0, .ref (ad 0)), (1, .ref (sa x1))] [.int k0] S := by
  intro H locs ls hP hD hS hl
  have hX0 := hX
  obtain ⟨hx, hb, hml, hown, hts, hlk, hr, hlv, hK, hZ⟩ := hX0
  unfold jm_isWord_b21 at h
  refine lv_istore_n (lv' := [(2, .int k0), (0, .ref (ad 0)), (1, .ref (sa x1))]) hx hb dX6_isWord_21 rfl hl (Nat.le_of_ble_eq_true rfl) rfl (fun ls hl => ?_)
  refine lv_iconst hx hb dX6_isWord_22 jx_ki0 ?_
  obtain ⟨y1, ey1, h⟩ := jx_nx_some h
  refine jx_topi ey1 ?_
  refine lv_istore_n (lv' := [(3, .int y1), (2, .int k0), (0, .ref (ad 0)), (1, .ref (sa x1))]) hx hb dX6_isWord_23 rfl hl (Nat.le_of_ble_eq_true rfl) rfl (fun ls hl => ?_)
  exact jm_isWord_h24_ok hX F F _ h _ _ _ hP hD hS (lv_sub hl [2, 3, 1, 0] rfl)
theorem jm_isWord_ok {out : Int32 × jm_S} (hX : jm_Ok p R s m args meth c A D ck ad sa cX6_isWord 4 (some .boolean) 6) (F : Nat) (x1 : Nat) (S : jm_S) (h : jm_isWord F x1 S = some out) : jm_J p l e R s m args below meth c A D ck ad 4 (jm_Qi below args s A D ck ad sa out) 0 [(0, .ref (ad 0)), (1, .ref (sa x1))] [] S := by
  intro H locs ls hP hD hS hl
  have hX0 := hX
  obtain ⟨hx, hb, hml, hown, hts, hlk, hr, hlv, hK, hZ⟩ := hX0
  unfold jm_isWord at h
  refine lv_aload_n hx hb dX6_isWord_0 rfl (lv_at hl 0 rfl) ?_
  refine jm_get hx hb hts hown hK hP jm_f6 (by decide) jm_g6 dX6_isWord_1 ?_
  refine lv_aload_n hx hb dX6_isWord_4 rfl (lv_at hl 0 rfl) ?_
  refine jm_get hx hb hts hown hK hP jm_f8 (by decide) jm_g8 dX6_isWord_5 ?_
  refine lv_isub hx hb dX6_isWord_8 ?_
  refine lv_aload_n hx hb dX6_isWord_9 rfl (lv_at hl 1 rfl) ?_
  obtain ⟨zs1, h⟩ := jx_gs_some h
  refine jm_slen hx hb hml hown hts hlv hZ hS hl.1 (lv_room (Nat.le_of_ble_eq_true rfl)) zs1 (Nat.le_of_ble_eq_true rfl) dX6_isWord_10 ?_
  refine lv_icmp_ne (tgt := 20) hx hb dX6_isWord_13 rfl (fun c2 => ?_) (fun c2 => ?_)
  · rw [if_neg c2] at h
    refine lv_iconst hx hb dX6_isWord_20 jx_ki0 ?_
    exact jm_isWord_b21_ok hX F _ _ _ h _ _ _ hP hD hS hl
  · rw [if_pos c2] at h
    refine lv_iconst hx hb dX6_isWord_16 jx_ki1 ?_
    refine lv_goto (tgt := 21) hx hb dX6_isWord_17 rfl ?_
    exact jm_isWord_b21_ok hX F _ _ _ h _ _ _ hP hD hS hl
theorem jm_isWord_met {l : Launch} {D : va_G} {ck : Nat → ClassId} {ad sa : Nat → Nat} {A : Nat → Prop} {F : Nat} {x1 : Nat} {S : jm_S} {out : Int32 × jm_S} (h : jm_isWord F x1 S = some out) : jm_Mi l D ck ad sa A yX6_isWord cX6_isWord 4 (some .boolean) 6 [.ref (sa x1)] S out :=
  jm_Mi_of ⟨by decide, rfl, Nat.le_of_ble_eq_true rfl⟩ (fun hX => jm_isWord_ok hX F x1 S h)
theorem jm_letters_d : yX6_letters.cls = RX6 ∧ yX6_letters.cls ≠ "java/lang/invoke/MethodHandle" ∧ yX6_letters.cls ≠ "java/lang/invoke/VarHandle" ∧ (parseMethodDescriptor yX6_letters.desc).map (fun d => d.parameters.length) = some 0 := by decide +kernel
theorem jm_letters_g : GoodIn lw_all (wsV RX6 152 RX6 yX6_letters (ws_ yX6_letters cX6_letters 1 none)) := lw_V q1732 q1734 qs39 q110 q1735
theorem jm_letters_L4_ok {out : jm_S} (hX : jm_Ok p R s m args meth c A D ck ad sa cX6_letters 1 none 2) (F : Nat) {r4 : jm_S → Option (jm_S)} (hr4 : ∀ a, r4 a = some out → jm_J p l e R s m args below meth c A D ck ad 1 (jm_Qv below args s A D ck ad sa out) 4 [(0, .ref (ad 0))] [] a)  (S : jm_S) (h : jm_letters_L4 F r4  S = some out) : jm_J p l e R s m args below meth c A D ck ad 1 (jm_Qv below args s A D ck ad sa out) 4 [(0, .ref (ad 0))] [] S := by
  intro H locs ls hP hD hS hl
  have hX0 := hX
  obtain ⟨hx, hb, hml, hown, hts, hlk, hr, hlv, hK, hZ⟩ := hX0
  unfold jm_letters_L4 at h
  refine lv_aload_n hx hb dX6_letters_4 rfl (lv_at hl 0 rfl) ?_
  refine lv_bipush hx hb dX6_letters_5 jx_kb97 ?_
  refine lv_bipush hx hb dX6_letters_7 jx_kb122 ?_
  obtain ⟨q1, eq1, h⟩ := jx_bi_some h
  refine jm_callI hx hb hml hown hts hlv hK hZ (jm_isAt_met eq1) jm_isAt_g jm_isAt_d (As := [.int (nI 97), .int (nI 122)]) (Nat.le_of_ble_eq_true rfl) (Nat.le_of_ble_eq_true rfl) hP hD hS hl.1 rfl rfl (lv_room (Nat.le_of_ble_eq_true rfl)) dX6_letters_9 (fun H locs hP hD hS => ?_)
  refine lv_if_eq (tgt := 28) hx hb dX6_letters_12 rfl (fun c2 => ?_) (fun c2 => ?_)
  · rw [if_pos c2] at h
    exact jm_vret hx hb hr hlk hK hZ hP hD hS h dX6_letters_28
  · rw [if_neg c2] at h
    refine lv_aload_n hx hb dX6_letters_15 rfl (lv_at hl 0 rfl) ?_
    refine lv_dup hx hb dX6_letters_16 rfl ?_
    refine jm_get hx hb hts hown hK hP jm_f6 (by decide) jm_g6 dX6_letters_17 ?_
    refine lv_iconst hx hb dX6_letters_20 jx_ki1 ?_
    refine lv_iadd hx hb dX6_letters_21 ?_
    obtain ⟨S3, eS3, h⟩ := jx_nx_some h
    refine jm_put hx hb hts hown hK hP hD hS eS3 jm_f6 (by decide) jm_n6 jm_d6 jm_p6 dX6_letters_22 (fun H locs hP hD hS => ?_)
    refine lv_goto (tgt := 4) hx hb dX6_letters_25 rfl ?_
    exact hr4 _ h _ _ _ hP hD hS hl
theorem jm_letters_h4_ok {out : jm_S} (hX : jm_Ok p R s m args meth c A D ck ad sa cX6_letters 1 none 2) (F : Nat) (n : Nat) (a : jm_S) (h : jm_letters_h4 F n a = some out) : jm_J p l e R s m args below meth c A D ck ad 1 (jm_Qv below args s A D ck ad sa out) 4 [(0, .ref (ad 0))] [] a :=
  jx_loop_ind (J := fun a => jm_J p l e R s m args below meth c A D ck ad 1 (jm_Qv below args s A D ck ad sa out) 4 [(0, .ref (ad 0))] [] a) (fun r hr a h => jm_letters_L4_ok hX F hr a h) n a h
theorem jm_letters_ok {out : jm_S} (hX : jm_Ok p R s m args meth c A D ck ad sa cX6_letters 1 none 2) (F : Nat)  (S : jm_S) (h : jm_letters F  S = some out) : jm_J p l e R s m args below meth c A D ck ad 1 (jm_Qv below args s A D ck ad sa out) 0 [(0, .ref (ad 0))] [] S := by
  intro H locs ls hP hD hS hl
  have hX0 := hX
  obtain ⟨hx, hb, hml, hown, hts, hlk, hr, hlv, hK, hZ⟩ := hX0
  unfold jm_letters at h
  refine lv_aload_n hx hb dX6_letters_0 rfl (lv_at hl 0 rfl) ?_
  obtain ⟨q1, eq1, h⟩ := jx_bi_some h
  refine jm_callV hx hb hml hown hts hlv hK hZ (jm_blanks_met eq1) jm_blanks_g jm_blanks_d (As := []) (Nat.le_of_ble_eq_true rfl) (Nat.le_of_ble_eq_true rfl) hP hD hS hl.1 rfl rfl (lv_room (Nat.le_of_ble_eq_true rfl)) dX6_letters_1 (fun H locs hP hD hS => ?_)
  exact jm_letters_h4_ok hX F F _ h _ _ _ hP hD hS hl
theorem jm_letters_met {l : Launch} {D : va_G} {ck : Nat → ClassId} {ad sa : Nat → Nat} {A : Nat → Prop} {F : Nat}  {S : jm_S} {out : jm_S} (h : jm_letters F  S = some out) : jm_Mv l D ck ad sa A yX6_letters cX6_letters 1 none 2 [] S out :=
  jm_Mv_of ⟨by decide, rfl, Nat.le_of_ble_eq_true rfl⟩ (fun hX => jm_letters_ok hX F  S h)
theorem jm_needs_d : yX6_needs.cls = RX6 ∧ yX6_needs.cls ≠ "java/lang/invoke/MethodHandle" ∧ yX6_needs.cls ≠ "java/lang/invoke/VarHandle" ∧ (parseMethodDescriptor yX6_needs.desc).map (fun d => d.parameters.length) = some 1 := by decide +kernel
theorem jm_needs_g : GoodIn lw_all (wsV RX6 161 RX6 yX6_needs (ws_ yX6_needs cX6_needs 2 (some .boolean))) := lw_V q1786 q1788 qs49 q110 q1789
theorem jm_needs_ok {out : Int32 × jm_S} (hX : jm_Ok p R s m args meth c A D ck ad sa cX6_needs 2 (some .boolean) 7) (F : Nat) (x1 : Nat) (S : jm_S) (h : jm_needs F x1 S = some out) : jm_J p l e R s m args below meth c A D ck ad 2 (jm_Qi below args s A D ck ad sa out) 0 [(0, .ref (ad 0)), (1, .ref (sa x1))] [] S := by
  intro H locs ls hP hD hS hl
  have hX0 := hX
  obtain ⟨hx, hb, hml, hown, hts, hlk, hr, hlv, hK, hZ⟩ := hX0
  unfold jm_needs at h
  refine lv_aload_n hx hb dX6_needs_0 rfl (lv_at hl 0 rfl) ?_
  obtain ⟨q1, eq1, h⟩ := jx_bi_some h
  refine jm_callV hx hb hml hown hts hlv hK hZ (jm_letters_met eq1) jm_letters_g jm_letters_d (As := []) (Nat.le_of_ble_eq_true rfl) (Nat.le_of_ble_eq_true rfl) hP hD hS hl.1 rfl rfl (lv_room (Nat.le_of_ble_eq_true rfl)) dX6_needs_1 (fun H locs hP hD hS => ?_)
  refine lv_aload_n hx hb dX6_needs_4 rfl (lv_at hl 0 rfl) ?_
  refine lv_aload_n hx hb dX6_needs_5 rfl (lv_at hl 1 rfl) ?_
  obtain ⟨q2, eq2, h⟩ := jx_bi_some h
  refine jm_callI hx hb hml hown hts hlv hK hZ (jm_isWord_met eq2) jm_isWord_g jm_isWord_d (As := [.ref (sa x1)]) (Nat.le_of_ble_eq_true rfl) (Nat.le_of_ble_eq_true rfl) hP hD hS hl.1 rfl rfl (lv_room (Nat.le_of_ble_eq_true rfl)) dX6_needs_6 (fun H locs hP hD hS => ?_)
  obtain ⟨z3, h⟩ := jx_gz_some h
  exact jm_zret hx hb hr hlk hK hZ hP hD hS z3 h dX6_needs_9
theorem jm_needs_met {l : Launch} {D : va_G} {ck : Nat → ClassId} {ad sa : Nat → Nat} {A : Nat → Prop} {F : Nat} {x1 : Nat} {S : jm_S} {out : Int32 × jm_S} (h : jm_needs F x1 S = some out) : jm_Mi l D ck ad sa A yX6_needs cX6_needs 2 (some .boolean) 7 [.ref (sa x1)] S out :=
  jm_Mi_of ⟨by decide, rfl, Nat.le_of_ble_eq_true rfl⟩ (fun hX => jm_needs_ok hX F x1 S h)
theorem jm_number_d : yX6_number.cls = RX6 ∧ yX6_number.cls ≠ "java/lang/invoke/MethodHandle" ∧ yX6_number.cls ≠ "java/lang/invoke/VarHandle" ∧ (parseMethodDescriptor yX6_number.desc).map (fun d => d.parameters.length) = some 1 := by decide +kernel
theorem jm_number_g : GoodIn lw_all (wsV RX6 164 RX6 yX6_number (ws_ yX6_number cX6_number 3 (some .int))) := lw_V q1747 q1749 qs42 q110 q1750
theorem jm_number_b51_ok {out : Int32 × jm_S} (hX : jm_Ok p R s m args meth c A D ck ad sa cX6_number 3 (some .int) 2) (F : Nat) {r6 : Int32 × Int32 × jm_S → Option (Int32 × jm_S)} (hr6 : ∀ a, r6 a = some out → jm_J p l e R s m args below meth c A D ck ad 3 (jm_Qi below args s A D ck ad sa out) 6 [(0, .ref (ad 0)), (1, .int a.1), (2, .int a.2.1)] [] a.2.2) (x1 : Int32) (k0 : Int32) (S : jm_S) (h : jm_number_b51 F r6 x1 k0 S = some out) : jm_J p l e R s m args below meth c A D ck ad 3 (jm_Qi below args s A D ck ad sa out) 51 [(0, .ref (ad 0)), (1, .int x1)] [.int k0] S := by
  intro H locs ls hP hD hS hl
  have hX0 := hX
  obtain ⟨hx, hb, hml, hown, hts, hlk, hr, hlv, hK, hZ⟩ := hX0
  unfold jm_number_b51 at h
  refine lv_istore_n (lv' := [(2, .int k0), (0, .ref (ad 0)), (1, .int x1)]) hx hb dX6_number_51 rfl hl (Nat.le_of_ble_eq_true rfl) rfl (fun ls hl => ?_)
  refine lv_aload_n hx hb dX6_number_52 rfl (lv_at hl 1 rfl) ?_
  refine lv_dup hx hb dX6_number_53 rfl ?_
  refine jm_get hx hb hts hown hK hP jm_f6 (by decide) jm_g6 dX6_number_54 ?_
  refine lv_iconst hx hb dX6_number_57 jx_ki1 ?_
  refine lv_iadd hx hb dX6_number_58 ?_
  obtain ⟨S1, eS1, h⟩ := jx_nx_some h
  refine jm_put hx hb hts hown hK hP hD hS eS1 jm_f6 (by decide) jm_n6 jm_d6 jm_p6 dX6_number_59 (fun H locs hP hD hS => ?_)
  refine lv_goto (tgt := 6) hx hb dX6_number_62 rfl ?_
  exact hr6 _ h _ _ _ hP hD hS (lv_sub hl [1, 2, 0] rfl)
theorem jm_number_L6_ok {out : Int32 × jm_S} (hX : jm_Ok p R s m args meth c A D ck ad sa cX6_number 3 (some .int) 2) (F : Nat) {r6 : Int32 × Int32 × jm_S → Option (Int32 × jm_S)} (hr6 : ∀ a, r6 a = some out → jm_J p l e R s m args below meth c A D ck ad 3 (jm_Qi below args s A D ck ad sa out) 6 [(0, .ref (ad 0)), (1, .int a.1), (2, .int a.2.1)] [] a.2.2) (x1 : Int32) (x2 : Int32) (S : jm_S) (h : jm_number_L6 F r6 x1 x2 S = some out) : jm_J p l e R s m args below meth c A D ck ad 3 (jm_Qi below args s A D ck ad sa out) 6 [(0, .ref (ad 0)), (1, .int x1), (2, .int x2)] [] S := by
  intro H locs ls hP hD hS hl
  have hX0 := hX
  obtain ⟨hx, hb, hml, hown, hts, hlk, hr, hlv, hK, hZ⟩ := hX0
  unfold jm_number_L6 at h
  refine lv_aload_n hx hb dX6_number_6 rfl (lv_at hl 0 rfl) ?_
  refine lv_bipush hx hb dX6_number_7 jx_kb48 ?_
  refine lv_bipush hx hb dX6_number_9 jx_kb57 ?_
  obtain ⟨q1, eq1, h⟩ := jx_bi_some h
  refine jm_callI hx hb hml hown hts hlv hK hZ (jm_isAt_met eq1) jm_isAt_g jm_isAt_d (As := [.int (nI 48), .int (nI 57)]) (Nat.le_of_ble_eq_true rfl) (Nat.le_of_ble_eq_true rfl) hP hD hS hl.1 rfl rfl (lv_room (Nat.le_of_ble_eq_true rfl)) dX6_number_11 (fun H locs hP hD hS => ?_)
  refine lv_if_eq (tgt := 65) hx hb dX6_number_14 rfl (fun c2 => ?_) (fun c2 => ?_)
  · rw [if_pos c2] at h
    refine lv_aload_n hx hb dX6_number_65 rfl (lv_at hl 0 rfl) ?_
    refine jm_get hx hb hts hown hK hP jm_f6 (by decide) jm_g6 dX6_number_66 ?_
    refine lv_aload_n hx hb dX6_number_69 rfl (lv_at hl 0 rfl) ?_
    refine jm_get hx hb hts hown hK hP jm_f8 (by decide) jm_g8 dX6_number_70 ?_
    refine lv_icmp_eq (tgt := 94) hx hb dX6_number_73 rfl (fun c3 => ?_) (fun c3 => ?_)
    · rw [if_pos c3] at h
      refine lv_iconst hx hb dX6_number_94 jx_kim1 ?_
      refine lv_goto (tgt := 99) hx hb dX6_number_95 rfl ?_
      exact jm_iret hx hb hr hlk hK hZ hP hD hS h dX6_number_99
    · rw [if_neg c3] at h
      refine lv_aload_n hx hb dX6_number_76 rfl (lv_at hl 0 rfl) ?_
      refine jm_get hx hb hts hown hK hP jm_f6 (by decide) jm_g6 dX6_number_77 ?_
      refine lv_aload_n hx hb dX6_number_80 rfl (lv_at hl 0 rfl) ?_
      refine jm_get hx hb hts hown hK hP jm_f8 (by decide) jm_g8 dX6_number_81 ?_
      refine lv_isub hx hb dX6_number_84 ?_
      refine lv_iconst hx hb dX6_number_85 jx_ki3 ?_
      refine lv_icmp_gt (tgt := 94) hx hb dX6_number_86 rfl (fun c4 => ?_) (fun c4 => ?_)
      · rw [if_pos c4] at h
        refine lv_iconst hx hb dX6_number_94 jx_kim1 ?_
        refine lv_goto (tgt := 99) hx hb dX6_number_95 rfl ?_
        exact jm_iret hx hb hr hlk hK hZ hP hD hS h dX6_number_99
      · rw [if_neg c4] at h
        refine lv_iload_n hx hb dX6_number_89 rfl (lv_at hl 2 rfl) ?_
        refine lv_iload_n hx hb dX6_number_90 rfl (lv_at hl 1 rfl) ?_
        refine lv_icmp_le (tgt := 98) hx hb dX6_number_91 rfl (fun c5 => ?_) (fun c5 => ?_)
        · rw [if_pos c5] at h
          refine lv_iload_n hx hb dX6_number_98 rfl (lv_at hl 2 rfl) ?_
          exact jm_iret hx hb hr hlk hK hZ hP hD hS h dX6_number_99
        · rw [if_neg c5] at h
          refine lv_iconst hx hb dX6_number_94 jx_kim1 ?_
          refine lv_goto (tgt := 99) hx hb dX6_number_95 rfl ?_
          exact jm_iret hx hb hr hlk hK hZ hP hD hS h dX6_number_99
  · rw [if_neg c2] at h
    refine lv_aload_n hx hb dX6_number_17 rfl (lv_at hl 0 rfl) ?_
    refine jm_get hx hb hts hown hK hP jm_f6 (by decide) jm_g6 dX6_number_18 ?_
    refine lv_aload_n hx hb dX6_number_21 rfl (lv_at hl 0 rfl) ?_
    refine jm_get hx hb hts hown hK hP jm_f8 (by decide) jm_g8 dX6_number_22 ?_
    refine lv_isub hx hb dX6_number_25 ?_
    refine lv_iconst hx hb dX6_number_26 jx_ki3 ?_
    refine lv_icmp_ge (tgt := 50) hx hb dX6_number_27 rfl (fun c6 => ?_) (fun c6 => ?_)
    · rw [if_pos c6] at h
      refine lv_iload_n hx hb dX6_number_50 rfl (lv_at hl 2 rfl) ?_
      exact jm_number_b51_ok hX F hr6 _ _ _ h _ _ _ hP hD hS (lv_sub hl [0, 1] rfl)
    · rw [if_neg c6] at h
      refine lv_bipush hx hb dX6_number_30 jx_kb10 ?_
      refine lv_iload_n hx hb dX6_number_32 rfl (lv_at hl 2 rfl) ?_
      refine lv_imul hx hb dX6_number_33 ?_
      refine lv_aload_n hx hb dX6_number_34 rfl (lv_at hl 0 rfl) ?_
      refine jm_get hx hb hts hown hK hP jm_f4 (by decide) jm_g4 dX6_number_35 ?_
      refine lv_aload_n hx hb dX6_number_38 rfl (lv_at hl 0 rfl) ?_
      refine jm_get hx hb hts hown hK hP jm_f6 (by decide) jm_g6 dX6_number_39 ?_
      obtain ⟨j7, ej7, bj7, h⟩ := jx_ga_some h
      refine jm_bald hx hb hK hP jm_a4 ej7 bj7 dX6_number_42 ?_
      refine lv_iadd hx hb dX6_number_43 ?_
      refine lv_bipush hx hb dX6_number_44 jx_kb48 ?_
      refine lv_isub hx hb dX6_number_46 ?_
      refine lv_goto (tgt := 51) hx hb dX6_number_47 rfl ?_
      exact jm_number_b51_ok hX F hr6 _ _ _ h _ _ _ hP hD hS (lv_sub hl [0, 1] rfl)
theorem jm_number_h6_ok {out : Int32 × jm_S} (hX : jm_Ok p R s m args meth c A D ck ad sa cX6_number 3 (some .int) 2) (F : Nat) (n : Nat) (a : Int32 × Int32 × jm_S) (h : jm_number_h6 F n a = some out) : jm_J p l e R s m args below meth c A D ck ad 3 (jm_Qi below args s A D ck ad sa out) 6 [(0, .ref (ad 0)), (1, .int a.1), (2, .int a.2.1)] [] a.2.2 :=
  jx_loop_ind (J := fun a => jm_J p l e R s m args below meth c A D ck ad 3 (jm_Qi below args s A D ck ad sa out) 6 [(0, .ref (ad 0)), (1, .int a.1), (2, .int a.2.1)] [] a.2.2) (fun r hr a h => jm_number_L6_ok hX F hr a.1 a.2.1 a.2.2 h) n a h
theorem jm_number_ok {out : Int32 × jm_S} (hX : jm_Ok p R s m args meth c A D ck ad sa cX6_number 3 (some .int) 2) (F : Nat) (x1 : Int32) (S : jm_S) (h : jm_number F x1 S = some out) : jm_J p l e R s m args below meth c A D ck ad 3 (jm_Qi below args s A D ck ad sa out) 0 [(0, .ref (ad 0)), (1, .int x1)] [] S := by
  intro H locs ls hP hD hS hl
  have hX0 := hX
  obtain ⟨hx, hb, hml, hown, hts, hlk, hr, hlv, hK, hZ⟩ := hX0
  unfold jm_number at h
  refine lv_aload_n hx hb dX6_number_0 rfl (lv_at hl 0 rfl) ?_
  obtain ⟨q1, eq1, h⟩ := jx_bi_some h
  refine jm_callV hx hb hml hown hts hlv hK hZ (jm_blanks_met eq1) jm_blanks_g jm_blanks_d (As := []) (Nat.le_of_ble_eq_true rfl) (Nat.le_of_ble_eq_true rfl) hP hD hS hl.1 rfl rfl (lv_room (Nat.le_of_ble_eq_true rfl)) dX6_number_1 (fun H locs hP hD hS => ?_)
  refine lv_iconst hx hb dX6_number_4 jx_ki0 ?_
  obtain ⟨y2, ey2, h⟩ := jx_nx_some h
  refine jx_topi ey2 ?_
  refine lv_istore_n (lv' := [(2, .int y2), (0, .ref (ad 0)), (1, .int x1)]) hx hb dX6_number_5 rfl hl (Nat.le_of_ble_eq_true rfl) rfl (fun ls hl => ?_)
  exact jm_number_h6_ok hX F F _ h _ _ _ hP hD hS (lv_sub hl [1, 2, 0] rfl)
theorem jm_number_met {l : Launch} {D : va_G} {ck : Nat → ClassId} {ad sa : Nat → Nat} {A : Nat → Prop} {F : Nat} {x1 : Int32} {S : jm_S} {out : Int32 × jm_S} (h : jm_number F x1 S = some out) : jm_Mi l D ck ad sa A yX6_number cX6_number 3 (some .int) 2 [.int x1] S out :=
  jm_Mi_of ⟨by decide, rfl, Nat.le_of_ble_eq_true rfl⟩ (fun hX => jm_number_ok hX F x1 S h)
theorem jm_passes_d : yX6_passes.cls = RX6 ∧ yX6_passes.cls ≠ "java/lang/invoke/MethodHandle" ∧ yX6_passes.cls ≠ "java/lang/invoke/VarHandle" ∧ (parseMethodDescriptor yX6_passes.desc).map (fun d => d.parameters.length) = some 1 := by decide +kernel
theorem jm_passes_g : GoodIn lw_all (wsV RX6 218 RX6 yX6_passes (ws_ yX6_passes cX6_passes 2 (some .boolean))) := lw_V q1800 q1802 qs52 q110 q1803
theorem jm_passes_ok {out : Int32 × jm_S} (hX : jm_Ok p R s m args meth c A D ck ad sa cX6_passes 2 (some .boolean) 7) (F : Nat) (x1 : Nat) (S : jm_S) (h : jm_passes F x1 S = some out) : jm_J p l e R s m args below meth c A D ck ad 2 (jm_Qi below args s A D ck ad sa out) 0 [(0, .ref (ad 0)), (1, .ref (sa x1))] [] S := by
  intro H locs ls hP hD hS hl
  have hX0 := hX
  obtain ⟨hx, hb, hml, hown, hts, hlk, hr, hlv, hK, hZ⟩ := hX0
  unfold jm_passes at h
  refine lv_aload_n hx hb dX6_passes_0 rfl (lv_at hl 0 rfl) ?_
  obtain ⟨q1, eq1, h⟩ := jx_bi_some h
  refine jm_callV hx hb hml hown hts hlv hK hZ (jm_letters_met eq1) jm_letters_g jm_letters_d (As := []) (Nat.le_of_ble_eq_true rfl) (Nat.le_of_ble_eq_true rfl) hP hD hS hl.1 rfl rfl (lv_room (Nat.le_of_ble_eq_true rfl)) dX6_passes_1 (fun H locs hP hD hS => ?_)
  refine lv_aload_n hx hb dX6_passes_4 rfl (lv_at hl 0 rfl) ?_
  refine lv_aload_n hx hb dX6_passes_5 rfl (lv_at hl 1 rfl) ?_
  obtain ⟨q2, eq2, h⟩ := jx_bi_some h
  refine jm_callI hx hb hml hown hts hlv hK hZ (jm_isWord_met eq2) jm_isWord_g jm_isWord_d (As := [.ref (sa x1)]) (Nat.le_of_ble_eq_true rfl) (Nat.le_of_ble_eq_true rfl) hP hD hS hl.1 rfl rfl (lv_room (Nat.le_of_ble_eq_true rfl)) dX6_passes_6 (fun H locs hP hD hS => ?_)
  refine lv_if_eq (tgt := 14) hx hb dX6_passes_9 rfl (fun c3 => ?_) (fun c3 => ?_)
  · rw [if_pos c3] at h
    refine lv_aload_n hx hb dX6_passes_14 rfl (lv_at hl 0 rfl) ?_
    refine lv_aload_n hx hb dX6_passes_15 rfl (lv_at hl 0 rfl) ?_
    refine jm_get hx hb hts hown hK hP jm_f8 (by decide) jm_g8 dX6_passes_16 ?_
    obtain ⟨S4, eS4, h⟩ := jx_nx_some h
    refine jm_put hx hb hts hown hK hP hD hS eS4 jm_f6 (by decide) jm_n6 jm_d6 jm_p6 dX6_passes_19 (fun H locs hP hD hS => ?_)
    refine lv_iconst hx hb dX6_passes_22 jx_ki0 ?_
    exact jm_zret hx hb hr hlk hK hZ hP hD hS jx_nz0 h dX6_passes_23
  · rw [if_neg c3] at h
    refine lv_iconst hx hb dX6_passes_12 jx_ki1 ?_
    exact jm_zret hx hb hr hlk hK hZ hP hD hS jx_nz1 h dX6_passes_13
theorem jm_passes_met {l : Launch} {D : va_G} {ck : Nat → ClassId} {ad sa : Nat → Nat} {A : Nat → Prop} {F : Nat} {x1 : Nat} {S : jm_S} {out : Int32 × jm_S} (h : jm_passes F x1 S = some out) : jm_Mi l D ck ad sa A yX6_passes cX6_passes 2 (some .boolean) 7 [.ref (sa x1)] S out :=
  jm_Mi_of ⟨by decide, rfl, Nat.le_of_ble_eq_true rfl⟩ (fun hX => jm_passes_ok hX F x1 S h)
theorem jm_readAtom_d : yX6_readAtom.cls = RX6 ∧ yX6_readAtom.cls ≠ "java/lang/invoke/MethodHandle" ∧ yX6_readAtom.cls ≠ "java/lang/invoke/VarHandle" ∧ (parseMethodDescriptor yX6_readAtom.desc).map (fun d => d.parameters.length) = some 0 := by decide +kernel
theorem jm_readAtom_g : GoodIn lw_all (wsV RX6 171 RX6 yX6_readAtom (ws_ yX6_readAtom cX6_readAtom 2 (some .int))) := lw_V q1769 q1771 qs45 q110 q1772
theorem jm_readAtom_b42_ok {out : Int32 × jm_S} (hX : jm_Ok p R s m args meth c A D ck ad sa cX6_readAtom 2 (some .int) 7) (F : Nat) (k0 : Int32) (S : jm_S) (h : jm_readAtom_b42 F k0 S = some out) : jm_J p l e R s m args below meth c A D ck ad 2 (jm_Qi below args s A D ck ad sa out) 42 [(0, .ref (ad 0))] [.int k0] S := by
  intro H locs ls hP hD hS hl
  have hX0 := hX
  obtain ⟨hx, hb, hml, hown, hts, hlk, hr, hlv, hK, hZ⟩ := hX0
  unfold jm_readAtom_b42 at h
  refine lv_istore_n (lv' := [(1, .int k0), (0, .ref (ad 0))]) hx hb dX6_readAtom_42 rfl hl (Nat.le_of_ble_eq_true rfl) rfl (fun ls hl => ?_)
  refine lv_iload_n hx hb dX6_readAtom_43 rfl (lv_at hl 0 rfl) ?_
  refine lv_if_ge (tgt := 51) hx hb dX6_readAtom_44 rfl (fun c1 => ?_) (fun c1 => ?_)
  · rw [if_pos c1] at h
    refine lv_sipush hx hb dX6_readAtom_51 jx_ks1000 ?_
    refine lv_iload_n hx hb dX6_readAtom_54 rfl (lv_at hl 0 rfl) ?_
    refine lv_iadd hx hb dX6_readAtom_55 ?_
    exact jm_iret hx hb hr hlk hK hZ hP hD hS h dX6_readAtom_56
  · rw [if_neg c1] at h
    refine lv_iconst hx hb dX6_readAtom_47 jx_kim1 ?_
    refine lv_goto (tgt := 56) hx hb dX6_readAtom_48 rfl ?_
    exact jm_iret hx hb hr hlk hK hZ hP hD hS h dX6_readAtom_56
theorem jm_readAtom_ok {out : Int32 × jm_S} (hX : jm_Ok p R s m args meth c A D ck ad sa cX6_readAtom 2 (some .int) 7) (F : Nat)  (S : jm_S) (h : jm_readAtom F  S = some out) : jm_J p l e R s m args below meth c A D ck ad 2 (jm_Qi below args s A D ck ad sa out) 0 [(0, .ref (ad 0))] [] S := by
  intro H locs ls hP hD hS hl
  have hX0 := hX
  obtain ⟨hx, hb, hml, hown, hts, hlk, hr, hlv, hK, hZ⟩ := hX0
  unfold jm_readAtom at h
  refine lv_aload_n hx hb dX6_readAtom_0 rfl (lv_at hl 0 rfl) ?_
  obtain ⟨q1, eq1, h⟩ := jx_bi_some h
  refine jm_callV hx hb hml hown hts hlv hK hZ (jm_letters_met eq1) jm_letters_g jm_letters_d (As := []) (Nat.le_of_ble_eq_true rfl) (Nat.le_of_ble_eq_true rfl) hP hD hS hl.1 rfl rfl (lv_room (Nat.le_of_ble_eq_true rfl)) dX6_readAtom_1 (fun H locs hP hD hS => ?_)
  refine lv_aload_n hx hb dX6_readAtom_4 rfl (lv_at hl 0 rfl) ?_
  refine jm_get hx hb hts hown hK hP jm_f6 (by decide) jm_g6 dX6_readAtom_5 ?_
  refine lv_aload_n hx hb dX6_readAtom_8 rfl (lv_at hl 0 rfl) ?_
  refine jm_get hx hb hts hown hK hP jm_f8 (by decide) jm_g8 dX6_readAtom_9 ?_
  refine lv_icmp_ne (tgt := 23) hx hb dX6_readAtom_12 rfl (fun c2 => ?_) (fun c2 => ?_)
  · rw [if_neg c2] at h
    refine lv_aload_n hx hb dX6_readAtom_23 rfl (lv_at hl 0 rfl) ?_
    refine jm_ldcS (i := 11) (ix := 159) (tx := "c") hx hb hown hZ (by decide) rfl rfl dX6_readAtom_24 ?_
    obtain ⟨q3, eq3, h⟩ := jx_bi_some h
    refine jm_callI hx hb hml hown hts hlv hK hZ (jm_isWord_met eq3) jm_isWord_g jm_isWord_d (As := [.ref (sa 11)]) (Nat.le_of_ble_eq_true rfl) (Nat.le_of_ble_eq_true rfl) hP hD hS hl.1 rfl rfl (lv_room (Nat.le_of_ble_eq_true rfl)) dX6_readAtom_26 (fun H locs hP hD hS => ?_)
    refine lv_if_eq (tgt := 41) hx hb dX6_readAtom_29 rfl (fun c4 => ?_) (fun c4 => ?_)
    · rw [if_pos c4] at h
      refine lv_iconst hx hb dX6_readAtom_41 jx_kim1 ?_
      exact jm_readAtom_b42_ok hX F _ _ h _ _ _ hP hD hS hl
    · rw [if_neg c4] at h
      refine lv_aload_n hx hb dX6_readAtom_32 rfl (lv_at hl 0 rfl) ?_
      refine lv_bipush hx hb dX6_readAtom_33 jx_kb15 ?_
      obtain ⟨q5, eq5, h⟩ := jx_bi_some h
      refine jm_callI hx hb hml hown hts hlv hK hZ (jm_number_met eq5) jm_number_g jm_number_d (As := [.int (nI 15)]) (Nat.le_of_ble_eq_true rfl) (Nat.le_of_ble_eq_true rfl) hP hD hS hl.1 rfl rfl (lv_room (Nat.le_of_ble_eq_true rfl)) dX6_readAtom_35 (fun H locs hP hD hS => ?_)
      refine lv_goto (tgt := 42) hx hb dX6_readAtom_38 rfl ?_
      exact jm_readAtom_b42_ok hX F _ _ h _ _ _ hP hD hS hl
  · rw [if_pos c2] at h
    refine lv_aload_n hx hb dX6_readAtom_15 rfl (lv_at hl 0 rfl) ?_
    refine lv_sipush hx hb dX6_readAtom_16 jx_ks999 ?_
    obtain ⟨q6, eq6, h⟩ := jx_bi_some h
    refine jm_callI hx hb hml hown hts hlv hK hZ (jm_number_met eq6) jm_number_g jm_number_d (As := [.int (nI 999)]) (Nat.le_of_ble_eq_true rfl) (Nat.le_of_ble_eq_true rfl) hP hD hS hl.1 rfl rfl (lv_room (Nat.le_of_ble_eq_true rfl)) dX6_readAtom_19 (fun H locs hP hD hS => ?_)
    exact jm_iret hx hb hr hlk hK hZ hP hD hS h dX6_readAtom_22
theorem jm_readAtom_met {l : Launch} {D : va_G} {ck : Nat → ClassId} {ad sa : Nat → Nat} {A : Nat → Prop} {F : Nat}  {S : jm_S} {out : Int32 × jm_S} (h : jm_readAtom F  S = some out) : jm_Mi l D ck ad sa A yX6_readAtom cX6_readAtom 2 (some .int) 7 [] S out :=
  jm_Mi_of ⟨by decide, rfl, Nat.le_of_ble_eq_true rfl⟩ (fun hX => jm_readAtom_ok hX F  S h)
theorem jm_readCell_d : yX6_readCell.cls = RX6 ∧ yX6_readCell.cls ≠ "java/lang/invoke/MethodHandle" ∧ yX6_readCell.cls ≠ "java/lang/invoke/VarHandle" ∧ (parseMethodDescriptor yX6_readCell.desc).map (fun d => d.parameters.length) = some 0 := by decide +kernel
theorem jm_readCell_g : GoodIn lw_all (wsV RX6 208 RX6 yX6_readCell (ws_ yX6_readCell cX6_readCell 1 (some .int))) := lw_V q1790 q1792 qs50 q110 q1793
theorem jm_readCell_ok {out : Int32 × jm_S} (hX : jm_Ok p R s m args meth c A D ck ad sa cX6_readCell 1 (some .int) 8) (F : Nat)  (S : jm_S) (h : jm_readCell F  S = some out) : jm_J p l e R s m args below meth c A D ck ad 1 (jm_Qi below args s A D ck ad sa out) 0 [(0, .ref (ad 0))] [] S := by
  intro H locs ls hP hD hS hl
  have hX0 := hX
  obtain ⟨hx, hb, hml, hown, hts, hlk, hr, hlv, hK, hZ⟩ := hX0
  unfold jm_readCell at h
  refine lv_aload_n hx hb dX6_readCell_0 rfl (lv_at hl 0 rfl) ?_
  refine jm_ldcS (i := 11) (ix := 159) (tx := "c") hx hb hown hZ (by decide) rfl rfl dX6_readCell_1 ?_
  obtain ⟨q1, eq1, h⟩ := jx_bi_some h
  refine jm_callI hx hb hml hown hts hlv hK hZ (jm_needs_met eq1) jm_needs_g jm_needs_d (As := [.ref (sa 11)]) (Nat.le_of_ble_eq_true rfl) (Nat.le_of_ble_eq_true rfl) hP hD hS hl.1 rfl rfl (lv_room (Nat.le_of_ble_eq_true rfl)) dX6_readCell_3 (fun H locs hP hD hS => ?_)
  refine lv_if_eq (tgt := 18) hx hb dX6_readCell_6 rfl (fun c2 => ?_) (fun c2 => ?_)
  · rw [if_pos c2] at h
    refine lv_iconst hx hb dX6_readCell_18 jx_kim1 ?_
    exact jm_iret hx hb hr hlk hK hZ hP hD hS h dX6_readCell_19
  · rw [if_neg c2] at h
    refine lv_aload_n hx hb dX6_readCell_9 rfl (lv_at hl 0 rfl) ?_
    refine lv_bipush hx hb dX6_readCell_10 jx_kb15 ?_
    obtain ⟨q3, eq3, h⟩ := jx_bi_some h
    refine jm_callI hx hb hml hown hts hlv hK hZ (jm_number_met eq3) jm_number_g jm_number_d (As := [.int (nI 15)]) (Nat.le_of_ble_eq_true rfl) (Nat.le_of_ble_eq_true rfl) hP hD hS hl.1 rfl rfl (lv_room (Nat.le_of_ble_eq_true rfl)) dX6_readCell_12 (fun H locs hP hD hS => ?_)
    refine lv_goto (tgt := 19) hx hb dX6_readCell_15 rfl ?_
    exact jm_iret hx hb hr hlk hK hZ hP hD hS h dX6_readCell_19
theorem jm_readCell_met {l : Launch} {D : va_G} {ck : Nat → ClassId} {ad sa : Nat → Nat} {A : Nat → Prop} {F : Nat}  {S : jm_S} {out : Int32 × jm_S} (h : jm_readCell F  S = some out) : jm_Mi l D ck ad sa A yX6_readCell cX6_readCell 1 (some .int) 8 [] S out :=
  jm_Mi_of ⟨by decide, rfl, Nat.le_of_ble_eq_true rfl⟩ (fun hX => jm_readCell_ok hX F  S h)
theorem jm_sign_d : yX6_sign.cls = RX6 ∧ yX6_sign.cls ≠ "java/lang/invoke/MethodHandle" ∧ yX6_sign.cls ≠ "java/lang/invoke/VarHandle" ∧ (parseMethodDescriptor yX6_sign.desc).map (fun d => d.parameters.length) = some 1 := by decide +kernel
theorem jm_sign_g : GoodIn lw_all (wsV RX6 167 RX6 yX6_sign (ws_ yX6_sign cX6_sign 2 (some .boolean))) := lw_V q1782 q1784 qs48 q110 q1785
theorem jm_sign_ok {out : Int32 × jm_S} (hX : jm_Ok p R s m args meth c A D ck ad sa cX6_sign 2 (some .boolean) 2) (F : Nat) (x1 : Int32) (S : jm_S) (h : jm_sign F x1 S = some out) : jm_J p l e R s m args below meth c A D ck ad 2 (jm_Qi below args s A D ck ad sa out) 0 [(0, .ref (ad 0)), (1, .int x1)] [] S := by
  intro H locs ls hP hD hS hl
  have hX0 := hX
  obtain ⟨hx, hb, hml, hown, hts, hlk, hr, hlv, hK, hZ⟩ := hX0
  unfold jm_sign at h
  refine lv_aload_n hx hb dX6_sign_0 rfl (lv_at hl 0 rfl) ?_
  obtain ⟨q1, eq1, h⟩ := jx_bi_some h
  refine jm_callV hx hb hml hown hts hlv hK hZ (jm_blanks_met eq1) jm_blanks_g jm_blanks_d (As := []) (Nat.le_of_ble_eq_true rfl) (Nat.le_of_ble_eq_true rfl) hP hD hS hl.1 rfl rfl (lv_room (Nat.le_of_ble_eq_true rfl)) dX6_sign_1 (fun H locs hP hD hS => ?_)
  refine lv_aload_n hx hb dX6_sign_4 rfl (lv_at hl 0 rfl) ?_
  refine lv_iload_n hx hb dX6_sign_5 rfl (lv_at hl 1 rfl) ?_
  refine lv_iload_n hx hb dX6_sign_6 rfl (lv_at hl 1 rfl) ?_
  obtain ⟨q2, eq2, h⟩ := jx_bi_some h
  refine jm_callI hx hb hml hown hts hlv hK hZ (jm_isAt_met eq2) jm_isAt_g jm_isAt_d (As := [.int x1, .int x1]) (Nat.le_of_ble_eq_true rfl) (Nat.le_of_ble_eq_true rfl) hP hD hS hl.1 rfl rfl (lv_room (Nat.le_of_ble_eq_true rfl)) dX6_sign_7 (fun H locs hP hD hS => ?_)
  refine lv_if_ne (tgt := 15) hx hb dX6_sign_10 rfl (fun c3 => ?_) (fun c3 => ?_)
  · rw [if_neg c3] at h
    refine lv_aload_n hx hb dX6_sign_15 rfl (lv_at hl 0 rfl) ?_
    refine lv_dup hx hb dX6_sign_16 rfl ?_
    refine jm_get hx hb hts hown hK hP jm_f6 (by decide) jm_g6 dX6_sign_17 ?_
    refine lv_iconst hx hb dX6_sign_20 jx_ki1 ?_
    refine lv_iadd hx hb dX6_sign_21 ?_
    obtain ⟨S4, eS4, h⟩ := jx_nx_some h
    refine jm_put hx hb hts hown hK hP hD hS eS4 jm_f6 (by decide) jm_n6 jm_d6 jm_p6 dX6_sign_22 (fun H locs hP hD hS => ?_)
    refine lv_iconst hx hb dX6_sign_25 jx_ki1 ?_
    exact jm_zret hx hb hr hlk hK hZ hP hD hS jx_nz1 h dX6_sign_26
  · rw [if_pos c3] at h
    refine lv_iconst hx hb dX6_sign_13 jx_ki0 ?_
    exact jm_zret hx hb hr hlk hK hZ hP hD hS jx_nz0 h dX6_sign_14
theorem jm_sign_met {l : Launch} {D : va_G} {ck : Nat → ClassId} {ad sa : Nat → Nat} {A : Nat → Prop} {F : Nat} {x1 : Int32} {S : jm_S} {out : Int32 × jm_S} (h : jm_sign F x1 S = some out) : jm_Mi l D ck ad sa A yX6_sign cX6_sign 2 (some .boolean) 2 [.int x1] S out :=
  jm_Mi_of ⟨by decide, rfl, Nat.le_of_ble_eq_true rfl⟩ (fun hX => jm_sign_ok hX F x1 S h)
theorem jm_readSign_d : yX6_readSign.cls = RX6 ∧ yX6_readSign.cls ≠ "java/lang/invoke/MethodHandle" ∧ yX6_readSign.cls ≠ "java/lang/invoke/VarHandle" ∧ (parseMethodDescriptor yX6_readSign.desc).map (fun d => d.parameters.length) = some 1 := by decide +kernel
theorem jm_readSign_g : GoodIn lw_all (wsV RX6 177 RX6 yX6_readSign (ws_ yX6_readSign cX6_readSign 2 (some .int))) := lw_V q1778 q1780 qs47 q110 q1781
theorem jm_readSign_ok {out : Int32 × jm_S} (hX : jm_Ok p R s m args meth c A D ck ad sa cX6_readSign 2 (some .int) 3) (F : Nat) (x1 : Int32) (S : jm_S) (h : jm_readSign F x1 S = some out) : jm_J p l e R s m args below meth c A D ck ad 2 (jm_Qi below args s A D ck ad sa out) 0 [(0, .ref (ad 0)), (1, .int x1)] [] S := by
  intro H locs ls hP hD hS hl
  have hX0 := hX
  obtain ⟨hx, hb, hml, hown, hts, hlk, hr, hlv, hK, hZ⟩ := hX0
  unfold jm_readSign at h
  refine lv_iload_n hx hb dX6_readSign_0 rfl (lv_at hl 1 rfl) ?_
  refine lv_if_eq (tgt := 48) hx hb dX6_readSign_1 rfl (fun c1 => ?_) (fun c1 => ?_)
  · rw [if_pos c1] at h
    refine lv_aload_n hx hb dX6_readSign_48 rfl (lv_at hl 0 rfl) ?_
    refine lv_bipush hx hb dX6_readSign_49 jx_kb43 ?_
    obtain ⟨q2, eq2, h⟩ := jx_bi_some h
    refine jm_callI hx hb hml hown hts hlv hK hZ (jm_sign_met eq2) jm_sign_g jm_sign_d (As := [.int (nI 43)]) (Nat.le_of_ble_eq_true rfl) (Nat.le_of_ble_eq_true rfl) hP hD hS hl.1 rfl rfl (lv_room (Nat.le_of_ble_eq_true rfl)) dX6_readSign_51 (fun H locs hP hD hS => ?_)
    refine lv_if_eq (tgt := 62) hx hb dX6_readSign_54 rfl (fun c3 => ?_) (fun c3 => ?_)
    · rw [if_pos c3] at h
      refine lv_aload_n hx hb dX6_readSign_62 rfl (lv_at hl 0 rfl) ?_
      refine lv_bipush hx hb dX6_readSign_63 jx_kb45 ?_
      obtain ⟨q4, eq4, h⟩ := jx_bi_some h
      refine jm_callI hx hb hml hown hts hlv hK hZ (jm_sign_met eq4) jm_sign_g jm_sign_d (As := [.int (nI 45)]) (Nat.le_of_ble_eq_true rfl) (Nat.le_of_ble_eq_true rfl) hP hD hS hl.1 rfl rfl (lv_room (Nat.le_of_ble_eq_true rfl)) dX6_readSign_65 (fun H locs hP hD hS => ?_)
      refine lv_if_eq (tgt := 76) hx hb dX6_readSign_68 rfl (fun c5 => ?_) (fun c5 => ?_)
      · rw [if_pos c5] at h
        refine lv_aload_n hx hb dX6_readSign_76 rfl (lv_at hl 0 rfl) ?_
        refine lv_bipush hx hb dX6_readSign_77 jx_kb42 ?_
        obtain ⟨q6, eq6, h⟩ := jx_bi_some h
        refine jm_callI hx hb hml hown hts hlv hK hZ (jm_sign_met eq6) jm_sign_g jm_sign_d (As := [.int (nI 42)]) (Nat.le_of_ble_eq_true rfl) (Nat.le_of_ble_eq_true rfl) hP hD hS hl.1 rfl rfl (lv_room (Nat.le_of_ble_eq_true rfl)) dX6_readSign_79 (fun H locs hP hD hS => ?_)
        refine lv_if_eq (tgt := 90) hx hb dX6_readSign_82 rfl (fun c7 => ?_) (fun c7 => ?_)
        · rw [if_pos c7] at h
          refine lv_iconst hx hb dX6_readSign_90 jx_ki0 ?_
          exact jm_iret hx hb hr hlk hK hZ hP hD hS h dX6_readSign_91
        · rw [if_neg c7] at h
          refine lv_bipush hx hb dX6_readSign_85 jx_kb42 ?_
          refine lv_goto (tgt := 91) hx hb dX6_readSign_87 rfl ?_
          exact jm_iret hx hb hr hlk hK hZ hP hD hS h dX6_readSign_91
      · rw [if_neg c5] at h
        refine lv_bipush hx hb dX6_readSign_71 jx_kb45 ?_
        refine lv_goto (tgt := 91) hx hb dX6_readSign_73 rfl ?_
        exact jm_iret hx hb hr hlk hK hZ hP hD hS h dX6_readSign_91
    · rw [if_neg c3] at h
      refine lv_bipush hx hb dX6_readSign_57 jx_kb43 ?_
      refine lv_goto (tgt := 91) hx hb dX6_readSign_59 rfl ?_
      exact jm_iret hx hb hr hlk hK hZ hP hD hS h dX6_readSign_91
  · rw [if_neg c1] at h
    refine lv_aload_n hx hb dX6_readSign_4 rfl (lv_at hl 0 rfl) ?_
    refine lv_bipush hx hb dX6_readSign_5 jx_kb60 ?_
    obtain ⟨q8, eq8, h⟩ := jx_bi_some h
    refine jm_callI hx hb hml hown hts hlv hK hZ (jm_sign_met eq8) jm_sign_g jm_sign_d (As := [.int (nI 60)]) (Nat.le_of_ble_eq_true rfl) (Nat.le_of_ble_eq_true rfl) hP hD hS hl.1 rfl rfl (lv_room (Nat.le_of_ble_eq_true rfl)) dX6_readSign_7 (fun H locs hP hD hS => ?_)
    refine lv_if_eq (tgt := 18) hx hb dX6_readSign_10 rfl (fun c9 => ?_) (fun c9 => ?_)
    · rw [if_pos c9] at h
      refine lv_aload_n hx hb dX6_readSign_18 rfl (lv_at hl 0 rfl) ?_
      refine lv_bipush hx hb dX6_readSign_19 jx_kb62 ?_
      obtain ⟨q10, eq10, h⟩ := jx_bi_some h
      refine jm_callI hx hb hml hown hts hlv hK hZ (jm_sign_met eq10) jm_sign_g jm_sign_d (As := [.int (nI 62)]) (Nat.le_of_ble_eq_true rfl) (Nat.le_of_ble_eq_true rfl) hP hD hS hl.1 rfl rfl (lv_room (Nat.le_of_ble_eq_true rfl)) dX6_readSign_21 (fun H locs hP hD hS => ?_)
      refine lv_if_eq (tgt := 32) hx hb dX6_readSign_24 rfl (fun c11 => ?_) (fun c11 => ?_)
      · rw [if_pos c11] at h
        refine lv_aload_n hx hb dX6_readSign_32 rfl (lv_at hl 0 rfl) ?_
        refine lv_bipush hx hb dX6_readSign_33 jx_kb61 ?_
        obtain ⟨q12, eq12, h⟩ := jx_bi_some h
        refine jm_callI hx hb hml hown hts hlv hK hZ (jm_sign_met eq12) jm_sign_g jm_sign_d (As := [.int (nI 61)]) (Nat.le_of_ble_eq_true rfl) (Nat.le_of_ble_eq_true rfl) hP hD hS hl.1 rfl rfl (lv_room (Nat.le_of_ble_eq_true rfl)) dX6_readSign_35 (fun H locs hP hD hS => ?_)
        refine lv_if_eq (tgt := 46) hx hb dX6_readSign_38 rfl (fun c13 => ?_) (fun c13 => ?_)
        · rw [if_pos c13] at h
          refine lv_iconst hx hb dX6_readSign_46 jx_kim1 ?_
          exact jm_iret hx hb hr hlk hK hZ hP hD hS h dX6_readSign_47
        · rw [if_neg c13] at h
          refine lv_bipush hx hb dX6_readSign_41 jx_kb61 ?_
          refine lv_goto (tgt := 47) hx hb dX6_readSign_43 rfl ?_
          exact jm_iret hx hb hr hlk hK hZ hP hD hS h dX6_readSign_47
      · rw [if_neg c11] at h
        refine lv_bipush hx hb dX6_readSign_27 jx_kb62 ?_
        refine lv_goto (tgt := 47) hx hb dX6_readSign_29 rfl ?_
        exact jm_iret hx hb hr hlk hK hZ hP hD hS h dX6_readSign_47
    · rw [if_neg c9] at h
      refine lv_bipush hx hb dX6_readSign_13 jx_kb60 ?_
      refine lv_goto (tgt := 47) hx hb dX6_readSign_15 rfl ?_
      exact jm_iret hx hb hr hlk hK hZ hP hD hS h dX6_readSign_47
theorem jm_readSign_met {l : Launch} {D : va_G} {ck : Nat → ClassId} {ad sa : Nat → Nat} {A : Nat → Prop} {F : Nat} {x1 : Int32} {S : jm_S} {out : Int32 × jm_S} (h : jm_readSign F x1 S = some out) : jm_Mi l D ck ad sa A yX6_readSign cX6_readSign 2 (some .int) 3 [.int x1] S out :=
  jm_Mi_of ⟨by decide, rfl, Nat.le_of_ble_eq_true rfl⟩ (fun hX => jm_readSign_ok hX F x1 S h)
theorem jm_tells_d : yX6_tells.cls = RX6 ∧ yX6_tells.cls ≠ "java/lang/invoke/MethodHandle" ∧ yX6_tells.cls ≠ "java/lang/invoke/VarHandle" ∧ (parseMethodDescriptor yX6_tells.desc).map (fun d => d.parameters.length) = some 2 := by decide +kernel
theorem jm_tells_g : GoodIn lw_all (wsV RX6 174 RX6 yX6_tells (ws_ yX6_tells cX6_tells 3 (some .boolean))) := lw_V q1751 q1753 qs43 q110 q1754
theorem jm_tells_ok {out : Int32 × jm_S} (hX : jm_Ok p R s m args meth c A D ck ad sa cX6_tells 3 (some .boolean) 0) (F : Nat) (x1 : Int32) (x2 : Int32) (S : jm_S) (h : jm_tells F x1 x2 S = some out) : jm_J p l e R s m args below meth c A D ck ad 3 (jm_Qi below args s A D ck ad sa out) 0 [(0, .ref (ad 0)), (1, .int x1), (2, .int x2)] [] S := by
  intro H locs ls hP hD hS hl
  have hX0 := hX
  obtain ⟨hx, hb, hml, hown, hts, hlk, hr, hlv, hK, hZ⟩ := hX0
  unfold jm_tells at h
  refine lv_aload_n hx hb dX6_tells_0 rfl (lv_at hl 0 rfl) ?_
  refine jm_get hx hb hts hown hK hP jm_f11 (by decide) jm_g11 dX6_tells_1 ?_
  refine lv_iload_n hx hb dX6_tells_4 rfl (lv_at hl 1 rfl) ?_
  refine lv_iload_n hx hb dX6_tells_5 rfl (lv_at hl 2 rfl) ?_
  obtain ⟨j1, ej1, bj1, h⟩ := jx_ga_some h
  obtain ⟨S2, eS2, h⟩ := jx_nx_some h
  refine jm_iast hx hb hK hP hD hS jm_a11 (fun f => jm_u11 f) ej1 bj1 eS2 dX6_tells_6 (fun H locs hP hD hS => ?_)
  refine lv_iload_n hx hb dX6_tells_7 rfl (lv_at hl 2 rfl) ?_
  refine lv_if_lt (tgt := 15) hx hb dX6_tells_8 rfl (fun c3 => ?_) (fun c3 => ?_)
  · rw [if_pos c3] at h
    refine lv_iconst hx hb dX6_tells_15 jx_ki0 ?_
    exact jm_zret hx hb hr hlk hK hZ hP hD hS jx_nz0 h dX6_tells_16
  · rw [if_neg c3] at h
    refine lv_iconst hx hb dX6_tells_11 jx_ki1 ?_
    refine lv_goto (tgt := 16) hx hb dX6_tells_12 rfl ?_
    exact jm_zret hx hb hr hlk hK hZ hP hD hS jx_nz1 h dX6_tells_16
theorem jm_tells_met {l : Launch} {D : va_G} {ck : Nat → ClassId} {ad sa : Nat → Nat} {A : Nat → Prop} {F : Nat} {x1 : Int32} {x2 : Int32} {S : jm_S} {out : Int32 × jm_S} (h : jm_tells F x1 x2 S = some out) : jm_Mi l D ck ad sa A yX6_tells cX6_tells 3 (some .boolean) 0 [.int x1, .int x2] S out :=
  jm_Mi_of ⟨by decide, rfl, Nat.le_of_ble_eq_true rfl⟩ (fun hX => jm_tells_ok hX F x1 x2 S h)
theorem jm_readIf_d : yX6_readIf.cls = RX6 ∧ yX6_readIf.cls ≠ "java/lang/invoke/MethodHandle" ∧ yX6_readIf.cls ≠ "java/lang/invoke/VarHandle" ∧ (parseMethodDescriptor yX6_readIf.desc).map (fun d => d.parameters.length) = some 1 := by decide +kernel
theorem jm_readIf_g : GoodIn lw_all (wsV RX6 205 RX6 yX6_readIf (ws_ yX6_readIf cX6_readIf 2 (some .boolean))) := lw_V q1774 q1776 qs46 q110 q1777
theorem jm_readIf_ok {out : Int32 × jm_S} (hX : jm_Ok p R s m args meth c A D ck ad sa cX6_readIf 2 (some .boolean) 8) (F : Nat) (x1 : Int32) (S : jm_S) (h : jm_readIf F x1 S = some out) : jm_J p l e R s m args below meth c A D ck ad 2 (jm_Qi below args s A D ck ad sa out) 0 [(0, .ref (ad 0)), (1, .int x1)] [] S := by
  intro H locs ls hP hD hS hl
  have hX0 := hX
  obtain ⟨hx, hb, hml, hown, hts, hlk, hr, hlv, hK, hZ⟩ := hX0
  unfold jm_readIf at h
  refine lv_aload_n hx hb dX6_readIf_0 rfl (lv_at hl 0 rfl) ?_
  refine lv_iload_n hx hb dX6_readIf_1 rfl (lv_at hl 1 rfl) ?_
  refine lv_bipush hx hb dX6_readIf_2 jx_kb6 ?_
  refine lv_iadd hx hb dX6_readIf_4 ?_
  refine lv_aload_n hx hb dX6_readIf_5 rfl (lv_at hl 0 rfl) ?_
  obtain ⟨q1, eq1, h⟩ := jx_bi_some h
  refine jm_callI hx hb hml hown hts hlv hK hZ (jm_readAtom_met eq1) jm_readAtom_g jm_readAtom_d (As := []) (Nat.le_of_ble_eq_true rfl) (Nat.le_of_ble_eq_true rfl) hP hD hS hl.1 rfl rfl (lv_room (Nat.le_of_ble_eq_true rfl)) dX6_readIf_6 (fun H locs hP hD hS => ?_)
  obtain ⟨q2, eq2, h⟩ := jx_bi_some h
  refine jm_callI hx hb hml hown hts hlv hK hZ (jm_tells_met eq2) jm_tells_g jm_tells_d (As := [.int (x1 + (nI 6)), .int q1.1]) (Nat.le_of_ble_eq_true rfl) (Nat.le_of_ble_eq_true rfl) hP hD hS hl.1 rfl rfl (lv_room (Nat.le_of_ble_eq_true rfl)) dX6_readIf_9 (fun H locs hP hD hS => ?_)
  refine lv_if_eq (tgt := 75) hx hb dX6_readIf_12 rfl (fun c3 => ?_) (fun c3 => ?_)
  · rw [if_pos c3] at h
    refine lv_iconst hx hb dX6_readIf_75 jx_ki0 ?_
    exact jm_zret hx hb hr hlk hK hZ hP hD hS jx_nz0 h dX6_readIf_76
  · rw [if_neg c3] at h
    refine lv_aload_n hx hb dX6_readIf_15 rfl (lv_at hl 0 rfl) ?_
    refine lv_iload_n hx hb dX6_readIf_16 rfl (lv_at hl 1 rfl) ?_
    refine lv_bipush hx hb dX6_readIf_17 jx_kb8 ?_
    refine lv_iadd hx hb dX6_readIf_19 ?_
    refine lv_aload_n hx hb dX6_readIf_20 rfl (lv_at hl 0 rfl) ?_
    refine lv_iconst hx hb dX6_readIf_21 jx_ki1 ?_
    obtain ⟨q4, eq4, h⟩ := jx_bi_some h
    refine jm_callI hx hb hml hown hts hlv hK hZ (jm_readSign_met eq4) jm_readSign_g jm_readSign_d (As := [.int (nI 1)]) (Nat.le_of_ble_eq_true rfl) (Nat.le_of_ble_eq_true rfl) hP hD hS hl.1 rfl rfl (lv_room (Nat.le_of_ble_eq_true rfl)) dX6_readIf_22 (fun H locs hP hD hS => ?_)
    obtain ⟨q5, eq5, h⟩ := jx_bi_some h
    refine jm_callI hx hb hml hown hts hlv hK hZ (jm_tells_met eq5) jm_tells_g jm_tells_d (As := [.int (x1 + (nI 8)), .int q4.1]) (Nat.le_of_ble_eq_true rfl) (Nat.le_of_ble_eq_true rfl) hP hD hS hl.1 rfl rfl (lv_room (Nat.le_of_ble_eq_true rfl)) dX6_readIf_25 (fun H locs hP hD hS => ?_)
    refine lv_if_eq (tgt := 75) hx hb dX6_readIf_28 rfl (fun c6 => ?_) (fun c6 => ?_)
    · rw [if_pos c6] at h
      refine lv_iconst hx hb dX6_readIf_75 jx_ki0 ?_
      exact jm_zret hx hb hr hlk hK hZ hP hD hS jx_nz0 h dX6_readIf_76
    · rw [if_neg c6] at h
      refine lv_aload_n hx hb dX6_readIf_31 rfl (lv_at hl 0 rfl) ?_
      refine lv_iload_n hx hb dX6_readIf_32 rfl (lv_at hl 1 rfl) ?_
      refine lv_bipush hx hb dX6_readIf_33 jx_kb7 ?_
      refine lv_iadd hx hb dX6_readIf_35 ?_
      refine lv_aload_n hx hb dX6_readIf_36 rfl (lv_at hl 0 rfl) ?_
      obtain ⟨q7, eq7, h⟩ := jx_bi_some h
      refine jm_callI hx hb hml hown hts hlv hK hZ (jm_readAtom_met eq7) jm_readAtom_g jm_readAtom_d (As := []) (Nat.le_of_ble_eq_true rfl) (Nat.le_of_ble_eq_true rfl) hP hD hS hl.1 rfl rfl (lv_room (Nat.le_of_ble_eq_true rfl)) dX6_readIf_37 (fun H locs hP hD hS => ?_)
      obtain ⟨q8, eq8, h⟩ := jx_bi_some h
      refine jm_callI hx hb hml hown hts hlv hK hZ (jm_tells_met eq8) jm_tells_g jm_tells_d (As := [.int (x1 + (nI 7)), .int q7.1]) (Nat.le_of_ble_eq_true rfl) (Nat.le_of_ble_eq_true rfl) hP hD hS hl.1 rfl rfl (lv_room (Nat.le_of_ble_eq_true rfl)) dX6_readIf_40 (fun H locs hP hD hS => ?_)
      refine lv_if_eq (tgt := 75) hx hb dX6_readIf_43 rfl (fun c9 => ?_) (fun c9 => ?_)
      · rw [if_pos c9] at h
        refine lv_iconst hx hb dX6_readIf_75 jx_ki0 ?_
        exact jm_zret hx hb hr hlk hK hZ hP hD hS jx_nz0 h dX6_readIf_76
      · rw [if_neg c9] at h
        refine lv_aload_n hx hb dX6_readIf_46 rfl (lv_at hl 0 rfl) ?_
        refine jm_ldcS (i := 2) (ix := 181) (tx := "jump") hx hb hown hZ (by decide) rfl rfl dX6_readIf_47 ?_
        obtain ⟨q10, eq10, h⟩ := jx_bi_some h
        refine jm_callI hx hb hml hown hts hlv hK hZ (jm_needs_met eq10) jm_needs_g jm_needs_d (As := [.ref (sa 2)]) (Nat.le_of_ble_eq_true rfl) (Nat.le_of_ble_eq_true rfl) hP hD hS hl.1 rfl rfl (lv_room (Nat.le_of_ble_eq_true rfl)) dX6_readIf_49 (fun H locs hP hD hS => ?_)
        refine lv_if_eq (tgt := 75) hx hb dX6_readIf_52 rfl (fun c11 => ?_) (fun c11 => ?_)
        · rw [if_pos c11] at h
          refine lv_iconst hx hb dX6_readIf_75 jx_ki0 ?_
          exact jm_zret hx hb hr hlk hK hZ hP hD hS jx_nz0 h dX6_readIf_76
        · rw [if_neg c11] at h
          refine lv_aload_n hx hb dX6_readIf_55 rfl (lv_at hl 0 rfl) ?_
          refine lv_iload_n hx hb dX6_readIf_56 rfl (lv_at hl 1 rfl) ?_
          refine lv_iconst hx hb dX6_readIf_57 jx_ki4 ?_
          refine lv_iadd hx hb dX6_readIf_58 ?_
          refine lv_aload_n hx hb dX6_readIf_59 rfl (lv_at hl 0 rfl) ?_
          refine lv_bipush hx hb dX6_readIf_60 jx_kb39 ?_
          obtain ⟨q12, eq12, h⟩ := jx_bi_some h
          refine jm_callI hx hb hml hown hts hlv hK hZ (jm_number_met eq12) jm_number_g jm_number_d (As := [.int (nI 39)]) (Nat.le_of_ble_eq_true rfl) (Nat.le_of_ble_eq_true rfl) hP hD hS hl.1 rfl rfl (lv_room (Nat.le_of_ble_eq_true rfl)) dX6_readIf_62 (fun H locs hP hD hS => ?_)
          obtain ⟨q13, eq13, h⟩ := jx_bi_some h
          refine jm_callI hx hb hml hown hts hlv hK hZ (jm_tells_met eq13) jm_tells_g jm_tells_d (As := [.int (x1 + (nI 4)), .int q12.1]) (Nat.le_of_ble_eq_true rfl) (Nat.le_of_ble_eq_true rfl) hP hD hS hl.1 rfl rfl (lv_room (Nat.le_of_ble_eq_true rfl)) dX6_readIf_65 (fun H locs hP hD hS => ?_)
          refine lv_if_eq (tgt := 75) hx hb dX6_readIf_68 rfl (fun c14 => ?_) (fun c14 => ?_)
          · rw [if_pos c14] at h
            refine lv_iconst hx hb dX6_readIf_75 jx_ki0 ?_
            exact jm_zret hx hb hr hlk hK hZ hP hD hS jx_nz0 h dX6_readIf_76
          · rw [if_neg c14] at h
            refine lv_iconst hx hb dX6_readIf_71 jx_ki1 ?_
            refine lv_goto (tgt := 76) hx hb dX6_readIf_72 rfl ?_
            exact jm_zret hx hb hr hlk hK hZ hP hD hS jx_nz1 h dX6_readIf_76
theorem jm_readIf_met {l : Launch} {D : va_G} {ck : Nat → ClassId} {ad sa : Nat → Nat} {A : Nat → Prop} {F : Nat} {x1 : Int32} {S : jm_S} {out : Int32 × jm_S} (h : jm_readIf F x1 S = some out) : jm_Mi l D ck ad sa A yX6_readIf cX6_readIf 2 (some .boolean) 8 [.int x1] S out :=
  jm_Mi_of ⟨by decide, rfl, Nat.le_of_ble_eq_true rfl⟩ (fun hX => jm_readIf_ok hX F x1 S h)
theorem jm_readSum_d : yX6_readSum.cls = RX6 ∧ yX6_readSum.cls ≠ "java/lang/invoke/MethodHandle" ∧ yX6_readSum.cls ≠ "java/lang/invoke/VarHandle" ∧ (parseMethodDescriptor yX6_readSum.desc).map (fun d => d.parameters.length) = some 1 := by decide +kernel
theorem jm_readSum_g : GoodIn lw_all (wsV RX6 211 RX6 yX6_readSum (ws_ yX6_readSum cX6_readSum 2 (some .boolean))) := lw_V q1794 q1796 qs51 q110 q1797
theorem jm_readSum_ok {out : Int32 × jm_S} (hX : jm_Ok p R s m args meth c A D ck ad sa cX6_readSum 2 (some .boolean) 8) (F : Nat) (x1 : Int32) (S : jm_S) (h : jm_readSum F x1 S = some out) : jm_J p l e R s m args below meth c A D ck ad 2 (jm_Qi below args s A D ck ad sa out) 0 [(0, .ref (ad 0)), (1, .int x1)] [] S := by
  intro H locs ls hP hD hS hl
  have hX0 := hX
  obtain ⟨hx, hb, hml, hown, hts, hlk, hr, hlv, hK, hZ⟩ := hX0
  unfold jm_readSum at h
  refine lv_aload_n hx hb dX6_readSum_0 rfl (lv_at hl 0 rfl) ?_
  refine lv_bipush hx hb dX6_readSum_1 jx_kb61 ?_
  obtain ⟨q1, eq1, h⟩ := jx_bi_some h
  refine jm_callI hx hb hml hown hts hlv hK hZ (jm_sign_met eq1) jm_sign_g jm_sign_d (As := [.int (nI 61)]) (Nat.le_of_ble_eq_true rfl) (Nat.le_of_ble_eq_true rfl) hP hD hS hl.1 rfl rfl (lv_room (Nat.le_of_ble_eq_true rfl)) dX6_readSum_3 (fun H locs hP hD hS => ?_)
  refine lv_if_eq (tgt := 24) hx hb dX6_readSum_6 rfl (fun c2 => ?_) (fun c2 => ?_)
  · rw [if_pos c2] at h
    refine lv_iconst hx hb dX6_readSum_24 jx_ki0 ?_
    exact jm_zret hx hb hr hlk hK hZ hP hD hS jx_nz0 h dX6_readSum_25
  · rw [if_neg c2] at h
    refine lv_aload_n hx hb dX6_readSum_9 rfl (lv_at hl 0 rfl) ?_
    refine lv_iload_n hx hb dX6_readSum_10 rfl (lv_at hl 1 rfl) ?_
    refine lv_bipush hx hb dX6_readSum_11 jx_kb6 ?_
    refine lv_iadd hx hb dX6_readSum_13 ?_
    refine lv_aload_n hx hb dX6_readSum_14 rfl (lv_at hl 0 rfl) ?_
    obtain ⟨q3, eq3, h⟩ := jx_bi_some h
    refine jm_callI hx hb hml hown hts hlv hK hZ (jm_readAtom_met eq3) jm_readAtom_g jm_readAtom_d (As := []) (Nat.le_of_ble_eq_true rfl) (Nat.le_of_ble_eq_true rfl) hP hD hS hl.1 rfl rfl (lv_room (Nat.le_of_ble_eq_true rfl)) dX6_readSum_15 (fun H locs hP hD hS => ?_)
    obtain ⟨q4, eq4, h⟩ := jx_bi_some h
    refine jm_callI hx hb hml hown hts hlv hK hZ (jm_tells_met eq4) jm_tells_g jm_tells_d (As := [.int (x1 + (nI 6)), .int q3.1]) (Nat.le_of_ble_eq_true rfl) (Nat.le_of_ble_eq_true rfl) hP hD hS hl.1 rfl rfl (lv_room (Nat.le_of_ble_eq_true rfl)) dX6_readSum_18 (fun H locs hP hD hS => ?_)
    refine lv_if_ne (tgt := 26) hx hb dX6_readSum_21 rfl (fun c5 => ?_) (fun c5 => ?_)
    · rw [if_neg c5] at h
      refine lv_aload_n hx hb dX6_readSum_26 rfl (lv_at hl 0 rfl) ?_
      refine jm_get hx hb hts hown hK hP jm_f11 (by decide) jm_g11 dX6_readSum_27 ?_
      refine lv_iload_n hx hb dX6_readSum_30 rfl (lv_at hl 1 rfl) ?_
      refine lv_bipush hx hb dX6_readSum_31 jx_kb8 ?_
      refine lv_iadd hx hb dX6_readSum_33 ?_
      refine lv_aload_n hx hb dX6_readSum_34 rfl (lv_at hl 0 rfl) ?_
      refine lv_iconst hx hb dX6_readSum_35 jx_ki0 ?_
      obtain ⟨q6, eq6, h⟩ := jx_bi_some h
      refine jm_callI hx hb hml hown hts hlv hK hZ (jm_readSign_met eq6) jm_readSign_g jm_readSign_d (As := [.int (nI 0)]) (Nat.le_of_ble_eq_true rfl) (Nat.le_of_ble_eq_true rfl) hP hD hS hl.1 rfl rfl (lv_room (Nat.le_of_ble_eq_true rfl)) dX6_readSum_36 (fun H locs hP hD hS => ?_)
      obtain ⟨j7, ej7, bj7, h⟩ := jx_ga_some h
      obtain ⟨S8, eS8, h⟩ := jx_nx_some h
      refine jm_iast hx hb hK hP hD hS jm_a11 (fun f => jm_u11 f) ej7 bj7 eS8 dX6_readSum_39 (fun H locs hP hD hS => ?_)
      refine lv_aload_n hx hb dX6_readSum_40 rfl (lv_at hl 0 rfl) ?_
      refine jm_get hx hb hts hown hK hP jm_f11 (by decide) jm_g11 dX6_readSum_41 ?_
      refine lv_iload_n hx hb dX6_readSum_44 rfl (lv_at hl 1 rfl) ?_
      refine lv_bipush hx hb dX6_readSum_45 jx_kb8 ?_
      refine lv_iadd hx hb dX6_readSum_47 ?_
      obtain ⟨j9, ej9, bj9, h⟩ := jx_ga_some h
      refine jm_iald hx hb hK hP jm_a11 ej9 bj9 dX6_readSum_48 ?_
      refine lv_if_eq (tgt := 67) hx hb dX6_readSum_49 rfl (fun c10 => ?_) (fun c10 => ?_)
      · rw [if_pos c10] at h
        refine lv_iconst hx hb dX6_readSum_67 jx_ki1 ?_
        refine lv_goto (tgt := 72) hx hb dX6_readSum_68 rfl ?_
        exact jm_zret hx hb hr hlk hK hZ hP hD hS jx_nz1 h dX6_readSum_72
      · rw [if_neg c10] at h
        refine lv_aload_n hx hb dX6_readSum_52 rfl (lv_at hl 0 rfl) ?_
        refine lv_iload_n hx hb dX6_readSum_53 rfl (lv_at hl 1 rfl) ?_
        refine lv_bipush hx hb dX6_readSum_54 jx_kb7 ?_
        refine lv_iadd hx hb dX6_readSum_56 ?_
        refine lv_aload_n hx hb dX6_readSum_57 rfl (lv_at hl 0 rfl) ?_
        obtain ⟨q11, eq11, h⟩ := jx_bi_some h
        refine jm_callI hx hb hml hown hts hlv hK hZ (jm_readAtom_met eq11) jm_readAtom_g jm_readAtom_d (As := []) (Nat.le_of_ble_eq_true rfl) (Nat.le_of_ble_eq_true rfl) hP hD hS hl.1 rfl rfl (lv_room (Nat.le_of_ble_eq_true rfl)) dX6_readSum_58 (fun H locs hP hD hS => ?_)
        obtain ⟨q12, eq12, h⟩ := jx_bi_some h
        refine jm_callI hx hb hml hown hts hlv hK hZ (jm_tells_met eq12) jm_tells_g jm_tells_d (As := [.int (x1 + (nI 7)), .int q11.1]) (Nat.le_of_ble_eq_true rfl) (Nat.le_of_ble_eq_true rfl) hP hD hS hl.1 rfl rfl (lv_room (Nat.le_of_ble_eq_true rfl)) dX6_readSum_61 (fun H locs hP hD hS => ?_)
        refine lv_if_eq (tgt := 71) hx hb dX6_readSum_64 rfl (fun c13 => ?_) (fun c13 => ?_)
        · rw [if_pos c13] at h
          refine lv_iconst hx hb dX6_readSum_71 jx_ki0 ?_
          exact jm_zret hx hb hr hlk hK hZ hP hD hS jx_nz0 h dX6_readSum_72
        · rw [if_neg c13] at h
          refine lv_iconst hx hb dX6_readSum_67 jx_ki1 ?_
          refine lv_goto (tgt := 72) hx hb dX6_readSum_68 rfl ?_
          exact jm_zret hx hb hr hlk hK hZ hP hD hS jx_nz1 h dX6_readSum_72
    · rw [if_pos c5] at h
      refine lv_iconst hx hb dX6_readSum_24 jx_ki0 ?_
      exact jm_zret hx hb hr hlk hK hZ hP hD hS jx_nz0 h dX6_readSum_25
theorem jm_readSum_met {l : Launch} {D : va_G} {ck : Nat → ClassId} {ad sa : Nat → Nat} {A : Nat → Prop} {F : Nat} {x1 : Int32} {S : jm_S} {out : Int32 × jm_S} (h : jm_readSum F x1 S = some out) : jm_Mi l D ck ad sa A yX6_readSum cX6_readSum 2 (some .boolean) 8 [.int x1] S out :=
  jm_Mi_of ⟨by decide, rfl, Nat.le_of_ble_eq_true rfl⟩ (fun hX => jm_readSum_ok hX F x1 S h)
theorem jm_wordAt_d : yX6_wordAt.cls = RX6 ∧ yX6_wordAt.cls ≠ "java/lang/invoke/MethodHandle" ∧ yX6_wordAt.cls ≠ "java/lang/invoke/VarHandle" ∧ (parseMethodDescriptor yX6_wordAt.desc).map (fun d => d.parameters.length) = some 0 := by decide +kernel
theorem jm_wordAt_g : GoodIn lw_all (wsV RX6 202 RX6 yX6_wordAt (ws_ yX6_wordAt cX6_wordAt 1 (some .int))) := lw_V q1755 q1757 qs44 q110 q1758
theorem jm_wordAt_ok {out : Int32 × jm_S} (hX : jm_Ok p R s m args meth c A D ck ad sa cX6_wordAt 1 (some .int) 7) (F : Nat)  (S : jm_S) (h : jm_wordAt F  S = some out) : jm_J p l e R s m args below meth c A D ck ad 1 (jm_Qi below args s A D ck ad sa out) 0 [(0, .ref (ad 0))] [] S := by
  intro H locs ls hP hD hS hl
  have hX0 := hX
  obtain ⟨hx, hb, hml, hown, hts, hlk, hr, hlv, hK, hZ⟩ := hX0
  unfold jm_wordAt at h
  refine lv_aload_n hx hb dX6_wordAt_0 rfl (lv_at hl 0 rfl) ?_
  refine jm_ldcS (i := 0) (ix := 183) (tx := "set") hx hb hown hZ (by decide) rfl rfl dX6_wordAt_1 ?_
  obtain ⟨q1, eq1, h⟩ := jx_bi_some h
  refine jm_callI hx hb hml hown hts hlv hK hZ (jm_isWord_met eq1) jm_isWord_g jm_isWord_d (As := [.ref (sa 0)]) (Nat.le_of_ble_eq_true rfl) (Nat.le_of_ble_eq_true rfl) hP hD hS hl.1 rfl rfl (lv_room (Nat.le_of_ble_eq_true rfl)) dX6_wordAt_3 (fun H locs hP hD hS => ?_)
  refine lv_if_eq (tgt := 13) hx hb dX6_wordAt_6 rfl (fun c2 => ?_) (fun c2 => ?_)
  · rw [if_pos c2] at h
    refine lv_aload_n hx hb dX6_wordAt_13 rfl (lv_at hl 0 rfl) ?_
    refine jm_ldcS (i := 1) (ix := 185) (tx := "point") hx hb hown hZ (by decide) rfl rfl dX6_wordAt_14 ?_
    obtain ⟨q3, eq3, h⟩ := jx_bi_some h
    refine jm_callI hx hb hml hown hts hlv hK hZ (jm_isWord_met eq3) jm_isWord_g jm_isWord_d (As := [.ref (sa 1)]) (Nat.le_of_ble_eq_true rfl) (Nat.le_of_ble_eq_true rfl) hP hD hS hl.1 rfl rfl (lv_room (Nat.le_of_ble_eq_true rfl)) dX6_wordAt_16 (fun H locs hP hD hS => ?_)
    refine lv_if_eq (tgt := 26) hx hb dX6_wordAt_19 rfl (fun c4 => ?_) (fun c4 => ?_)
    · rw [if_pos c4] at h
      refine lv_aload_n hx hb dX6_wordAt_26 rfl (lv_at hl 0 rfl) ?_
      refine jm_ldcS (i := 2) (ix := 181) (tx := "jump") hx hb hown hZ (by decide) rfl rfl dX6_wordAt_27 ?_
      obtain ⟨q5, eq5, h⟩ := jx_bi_some h
      refine jm_callI hx hb hml hown hts hlv hK hZ (jm_isWord_met eq5) jm_isWord_g jm_isWord_d (As := [.ref (sa 2)]) (Nat.le_of_ble_eq_true rfl) (Nat.le_of_ble_eq_true rfl) hP hD hS hl.1 rfl rfl (lv_room (Nat.le_of_ble_eq_true rfl)) dX6_wordAt_29 (fun H locs hP hD hS => ?_)
      refine lv_if_eq (tgt := 39) hx hb dX6_wordAt_32 rfl (fun c6 => ?_) (fun c6 => ?_)
      · rw [if_pos c6] at h
        refine lv_aload_n hx hb dX6_wordAt_39 rfl (lv_at hl 0 rfl) ?_
        refine jm_ldcS (i := 3) (ix := 186) (tx := "if") hx hb hown hZ (by decide) rfl rfl dX6_wordAt_40 ?_
        obtain ⟨q7, eq7, h⟩ := jx_bi_some h
        refine jm_callI hx hb hml hown hts hlv hK hZ (jm_isWord_met eq7) jm_isWord_g jm_isWord_d (As := [.ref (sa 3)]) (Nat.le_of_ble_eq_true rfl) (Nat.le_of_ble_eq_true rfl) hP hD hS hl.1 rfl rfl (lv_room (Nat.le_of_ble_eq_true rfl)) dX6_wordAt_42 (fun H locs hP hD hS => ?_)
        refine lv_if_eq (tgt := 52) hx hb dX6_wordAt_45 rfl (fun c8 => ?_) (fun c8 => ?_)
        · rw [if_pos c8] at h
          refine lv_aload_n hx hb dX6_wordAt_52 rfl (lv_at hl 0 rfl) ?_
          refine jm_ldcS (i := 4) (ix := 188) (tx := "through") hx hb hown hZ (by decide) rfl rfl dX6_wordAt_53 ?_
          obtain ⟨q9, eq9, h⟩ := jx_bi_some h
          refine jm_callI hx hb hml hown hts hlv hK hZ (jm_isWord_met eq9) jm_isWord_g jm_isWord_d (As := [.ref (sa 4)]) (Nat.le_of_ble_eq_true rfl) (Nat.le_of_ble_eq_true rfl) hP hD hS hl.1 rfl rfl (lv_room (Nat.le_of_ble_eq_true rfl)) dX6_wordAt_55 (fun H locs hP hD hS => ?_)
          refine lv_if_eq (tgt := 65) hx hb dX6_wordAt_58 rfl (fun c10 => ?_) (fun c10 => ?_)
          · rw [if_pos c10] at h
            refine lv_aload_n hx hb dX6_wordAt_65 rfl (lv_at hl 0 rfl) ?_
            refine jm_ldcS (i := 5) (ix := 190) (tx := "call") hx hb hown hZ (by decide) rfl rfl dX6_wordAt_66 ?_
            obtain ⟨q11, eq11, h⟩ := jx_bi_some h
            refine jm_callI hx hb hml hown hts hlv hK hZ (jm_isWord_met eq11) jm_isWord_g jm_isWord_d (As := [.ref (sa 5)]) (Nat.le_of_ble_eq_true rfl) (Nat.le_of_ble_eq_true rfl) hP hD hS hl.1 rfl rfl (lv_room (Nat.le_of_ble_eq_true rfl)) dX6_wordAt_68 (fun H locs hP hD hS => ?_)
            refine lv_if_eq (tgt := 78) hx hb dX6_wordAt_71 rfl (fun c12 => ?_) (fun c12 => ?_)
            · rw [if_pos c12] at h
              refine lv_aload_n hx hb dX6_wordAt_78 rfl (lv_at hl 0 rfl) ?_
              refine jm_ldcS (i := 6) (ix := 192) (tx := "by") hx hb hown hZ (by decide) rfl rfl dX6_wordAt_79 ?_
              obtain ⟨q13, eq13, h⟩ := jx_bi_some h
              refine jm_callI hx hb hml hown hts hlv hK hZ (jm_isWord_met eq13) jm_isWord_g jm_isWord_d (As := [.ref (sa 6)]) (Nat.le_of_ble_eq_true rfl) (Nat.le_of_ble_eq_true rfl) hP hD hS hl.1 rfl rfl (lv_room (Nat.le_of_ble_eq_true rfl)) dX6_wordAt_81 (fun H locs hP hD hS => ?_)
              refine lv_if_eq (tgt := 92) hx hb dX6_wordAt_84 rfl (fun c14 => ?_) (fun c14 => ?_)
              · rw [if_pos c14] at h
                refine lv_aload_n hx hb dX6_wordAt_92 rfl (lv_at hl 0 rfl) ?_
                refine jm_ldcS (i := 7) (ix := 194) (tx := "back") hx hb hown hZ (by decide) rfl rfl dX6_wordAt_93 ?_
                obtain ⟨q15, eq15, h⟩ := jx_bi_some h
                refine jm_callI hx hb hml hown hts hlv hK hZ (jm_isWord_met eq15) jm_isWord_g jm_isWord_d (As := [.ref (sa 7)]) (Nat.le_of_ble_eq_true rfl) (Nat.le_of_ble_eq_true rfl) hP hD hS hl.1 rfl rfl (lv_room (Nat.le_of_ble_eq_true rfl)) dX6_wordAt_95 (fun H locs hP hD hS => ?_)
                refine lv_if_eq (tgt := 106) hx hb dX6_wordAt_98 rfl (fun c16 => ?_) (fun c16 => ?_)
                · rw [if_pos c16] at h
                  refine lv_aload_n hx hb dX6_wordAt_106 rfl (lv_at hl 0 rfl) ?_
                  refine jm_ldcS (i := 8) (ix := 196) (tx := "door") hx hb hown hZ (by decide) rfl rfl dX6_wordAt_107 ?_
                  obtain ⟨q17, eq17, h⟩ := jx_bi_some h
                  refine jm_callI hx hb hml hown hts hlv hK hZ (jm_isWord_met eq17) jm_isWord_g jm_isWord_d (As := [.ref (sa 8)]) (Nat.le_of_ble_eq_true rfl) (Nat.le_of_ble_eq_true rfl) hP hD hS hl.1 rfl rfl (lv_room (Nat.le_of_ble_eq_true rfl)) dX6_wordAt_109 (fun H locs hP hD hS => ?_)
                  refine lv_if_eq (tgt := 120) hx hb dX6_wordAt_112 rfl (fun c18 => ?_) (fun c18 => ?_)
                  · rw [if_pos c18] at h
                    refine lv_aload_n hx hb dX6_wordAt_120 rfl (lv_at hl 0 rfl) ?_
                    refine jm_ldcS (i := 9) (ix := 198) (tx := "stop") hx hb hown hZ (by decide) rfl rfl dX6_wordAt_121 ?_
                    obtain ⟨q19, eq19, h⟩ := jx_bi_some h
                    refine jm_callI hx hb hml hown hts hlv hK hZ (jm_isWord_met eq19) jm_isWord_g jm_isWord_d (As := [.ref (sa 9)]) (Nat.le_of_ble_eq_true rfl) (Nat.le_of_ble_eq_true rfl) hP hD hS hl.1 rfl rfl (lv_room (Nat.le_of_ble_eq_true rfl)) dX6_wordAt_123 (fun H locs hP hD hS => ?_)
                    refine lv_if_eq (tgt := 134) hx hb dX6_wordAt_126 rfl (fun c20 => ?_) (fun c20 => ?_)
                    · rw [if_pos c20] at h
                      refine lv_iconst hx hb dX6_wordAt_134 jx_kim1 ?_
                      exact jm_iret hx hb hr hlk hK hZ hP hD hS h dX6_wordAt_135
                    · rw [if_neg c20] at h
                      refine lv_bipush hx hb dX6_wordAt_129 jx_kb9 ?_
                      refine lv_goto (tgt := 135) hx hb dX6_wordAt_131 rfl ?_
                      exact jm_iret hx hb hr hlk hK hZ hP hD hS h dX6_wordAt_135
                  · rw [if_neg c18] at h
                    refine lv_bipush hx hb dX6_wordAt_115 jx_kb8 ?_
                    refine lv_goto (tgt := 135) hx hb dX6_wordAt_117 rfl ?_
                    exact jm_iret hx hb hr hlk hK hZ hP hD hS h dX6_wordAt_135
                · rw [if_neg c16] at h
                  refine lv_bipush hx hb dX6_wordAt_101 jx_kb7 ?_
                  refine lv_goto (tgt := 135) hx hb dX6_wordAt_103 rfl ?_
                  exact jm_iret hx hb hr hlk hK hZ hP hD hS h dX6_wordAt_135
              · rw [if_neg c14] at h
                refine lv_bipush hx hb dX6_wordAt_87 jx_kb6 ?_
                refine lv_goto (tgt := 135) hx hb dX6_wordAt_89 rfl ?_
                exact jm_iret hx hb hr hlk hK hZ hP hD hS h dX6_wordAt_135
            · rw [if_neg c12] at h
              refine lv_iconst hx hb dX6_wordAt_74 jx_ki5 ?_
              refine lv_goto (tgt := 135) hx hb dX6_wordAt_75 rfl ?_
              exact jm_iret hx hb hr hlk hK hZ hP hD hS h dX6_wordAt_135
          · rw [if_neg c10] at h
            refine lv_iconst hx hb dX6_wordAt_61 jx_ki4 ?_
            refine lv_goto (tgt := 135) hx hb dX6_wordAt_62 rfl ?_
            exact jm_iret hx hb hr hlk hK hZ hP hD hS h dX6_wordAt_135
        · rw [if_neg c8] at h
          refine lv_iconst hx hb dX6_wordAt_48 jx_ki3 ?_
          refine lv_goto (tgt := 135) hx hb dX6_wordAt_49 rfl ?_
          exact jm_iret hx hb hr hlk hK hZ hP hD hS h dX6_wordAt_135
      · rw [if_neg c6] at h
        refine lv_iconst hx hb dX6_wordAt_35 jx_ki2 ?_
        refine lv_goto (tgt := 135) hx hb dX6_wordAt_36 rfl ?_
        exact jm_iret hx hb hr hlk hK hZ hP hD hS h dX6_wordAt_135
    · rw [if_neg c4] at h
      refine lv_iconst hx hb dX6_wordAt_22 jx_ki1 ?_
      refine lv_goto (tgt := 135) hx hb dX6_wordAt_23 rfl ?_
      exact jm_iret hx hb hr hlk hK hZ hP hD hS h dX6_wordAt_135
  · rw [if_neg c2] at h
    refine lv_iconst hx hb dX6_wordAt_9 jx_ki0 ?_
    refine lv_goto (tgt := 135) hx hb dX6_wordAt_10 rfl ?_
    exact jm_iret hx hb hr hlk hK hZ hP hD hS h dX6_wordAt_135
theorem jm_wordAt_met {l : Launch} {D : va_G} {ck : Nat → ClassId} {ad sa : Nat → Nat} {A : Nat → Prop} {F : Nat}  {S : jm_S} {out : Int32 × jm_S} (h : jm_wordAt F  S = some out) : jm_Mi l D ck ad sa A yX6_wordAt cX6_wordAt 1 (some .int) 7 [] S out :=
  jm_Mi_of ⟨by decide, rfl, Nat.le_of_ble_eq_true rfl⟩ (fun hX => jm_wordAt_ok hX F  S h)
theorem jm_readOrder_d : yX6_readOrder.cls = RX6 ∧ yX6_readOrder.cls ≠ "java/lang/invoke/MethodHandle" ∧ yX6_readOrder.cls ≠ "java/lang/invoke/VarHandle" ∧ (parseMethodDescriptor yX6_readOrder.desc).map (fun d => d.parameters.length) = some 1 := by decide +kernel
theorem jm_readOrder_g : GoodIn lw_all (wsV RX6 221 RX6 yX6_readOrder (ws_ yX6_readOrder cX6_readOrder 4 (some .boolean))) := lw_V q1728 q1730 qs38 q110 q1731
theorem jm_readOrder_b177_ok {out : Int32 × jm_S} (hX : jm_Ok p R s m args meth c A D ck ad sa cX6_readOrder 4 (some .boolean) 9) (F : Nat) (x2 : Int32) (S : jm_S) (h : jm_readOrder_b177 F x2 S = some out) : jm_J p l e R s m args below meth c A D ck ad 4 (jm_Qi below args s A D ck ad sa out) 177 [(0, .ref (ad 0)), (2, .int x2)] [] S := by
  intro H locs ls hP hD hS hl
  have hX0 := hX
  obtain ⟨hx, hb, hml, hown, hts, hlk, hr, hlv, hK, hZ⟩ := hX0
  unfold jm_readOrder_b177 at h
  refine lv_aload_n hx hb dX6_readOrder_177 rfl (lv_at hl 0 rfl) ?_
  refine lv_iload_n hx hb dX6_readOrder_178 rfl (lv_at hl 1 rfl) ?_
  refine lv_iconst hx hb dX6_readOrder_179 jx_ki4 ?_
  refine lv_iadd hx hb dX6_readOrder_180 ?_
  refine lv_aload_n hx hb dX6_readOrder_181 rfl (lv_at hl 0 rfl) ?_
  refine lv_bipush hx hb dX6_readOrder_182 jx_kb39 ?_
  obtain ⟨q1, eq1, h⟩ := jx_bi_some h
  refine jm_callI hx hb hml hown hts hlv hK hZ (jm_number_met eq1) jm_number_g jm_number_d (As := [.int (nI 39)]) (Nat.le_of_ble_eq_true rfl) (Nat.le_of_ble_eq_true rfl) hP hD hS hl.1 rfl rfl (lv_room (Nat.le_of_ble_eq_true rfl)) dX6_readOrder_184 (fun H locs hP hD hS => ?_)
  obtain ⟨q2, eq2, h⟩ := jx_bi_some h
  refine jm_callI hx hb hml hown hts hlv hK hZ (jm_tells_met eq2) jm_tells_g jm_tells_d (As := [.int (x2 + (nI 4)), .int q1.1]) (Nat.le_of_ble_eq_true rfl) (Nat.le_of_ble_eq_true rfl) hP hD hS hl.1 rfl rfl (lv_room (Nat.le_of_ble_eq_true rfl)) dX6_readOrder_187 (fun H locs hP hD hS => ?_)
  obtain ⟨z3, h⟩ := jx_gz_some h
  exact jm_zret hx hb hr hlk hK hZ hP hD hS z3 h dX6_readOrder_190
theorem jm_readOrder_b103_ok {out : Int32 × jm_S} (hX : jm_Ok p R s m args meth c A D ck ad sa cX6_readOrder 4 (some .boolean) 9) (F : Nat) (x2 : Int32) (S : jm_S) (h : jm_readOrder_b103 F x2 S = some out) : jm_J p l e R s m args below meth c A D ck ad 4 (jm_Qi below args s A D ck ad sa out) 103 [(0, .ref (ad 0)), (2, .int x2)] [] S := by
  intro H locs ls hP hD hS hl
  have hX0 := hX
  obtain ⟨hx, hb, hml, hown, hts, hlk, hr, hlv, hK, hZ⟩ := hX0
  unfold jm_readOrder_b103 at h
  refine lv_aload_n hx hb dX6_readOrder_103 rfl (lv_at hl 0 rfl) ?_
  obtain ⟨q1, eq1, h⟩ := jx_bi_some h
  refine jm_callI hx hb hml hown hts hlv hK hZ (jm_wordAt_met eq1) jm_wordAt_g jm_wordAt_d (As := []) (Nat.le_of_ble_eq_true rfl) (Nat.le_of_ble_eq_true rfl) hP hD hS hl.1 rfl rfl (lv_room (Nat.le_of_ble_eq_true rfl)) dX6_readOrder_104 (fun H locs hP hD hS => ?_)
  obtain ⟨y2, ey2, h⟩ := jx_nx_some h
  refine jx_topi ey2 ?_
  refine lv_istore_n (lv' := [(3, .int y2), (0, .ref (ad 0)), (2, .int x2)]) hx hb dX6_readOrder_107 rfl hl (Nat.le_of_ble_eq_true rfl) rfl (fun ls hl => ?_)
  refine lv_aload_n hx hb dX6_readOrder_108 rfl (lv_at hl 1 rfl) ?_
  refine jm_get hx hb hts hown hK hP jm_f11 (by decide) jm_g11 dX6_readOrder_109 ?_
  refine lv_iload_n hx hb dX6_readOrder_112 rfl (lv_at hl 2 rfl) ?_
  refine lv_iconst hx hb dX6_readOrder_113 jx_ki0 ?_
  refine lv_iadd hx hb dX6_readOrder_114 ?_
  refine lv_iload_n hx hb dX6_readOrder_115 rfl (lv_at hl 0 rfl) ?_
  obtain ⟨j3, ej3, bj3, h⟩ := jx_ga_some h
  obtain ⟨S4, eS4, h⟩ := jx_nx_some h
  refine jm_iast hx hb hK hP hD hS jm_a11 (fun f => jm_u11 f) ej3 bj3 eS4 dX6_readOrder_116 (fun H locs hP hD hS => ?_)
  refine lv_iload_n hx hb dX6_readOrder_117 rfl (lv_at hl 0 rfl) ?_
  refine lv_if_ge (tgt := 123) hx hb dX6_readOrder_118 rfl (fun c5 => ?_) (fun c5 => ?_)
  · rw [if_pos c5] at h
    refine lv_iload_n hx hb dX6_readOrder_123 rfl (lv_at hl 0 rfl) ?_
    refine lv_bipush hx hb dX6_readOrder_124 jx_kb7 ?_
    refine lv_icmp_eq (tgt := 135) hx hb dX6_readOrder_126 rfl (fun c6 => ?_) (fun c6 => ?_)
    · rw [if_pos c6] at h
      refine lv_iconst hx hb dX6_readOrder_135 jx_ki1 ?_
      exact jm_zret hx hb hr hlk hK hZ hP hD hS jx_nz1 h dX6_readOrder_136
    · rw [if_neg c6] at h
      refine lv_iload_n hx hb dX6_readOrder_129 rfl (lv_at hl 0 rfl) ?_
      refine lv_bipush hx hb dX6_readOrder_130 jx_kb9 ?_
      refine lv_icmp_ne (tgt := 137) hx hb dX6_readOrder_132 rfl (fun c7 => ?_) (fun c7 => ?_)
      · rw [if_neg c7] at h
        refine lv_iload_n hx hb dX6_readOrder_137 rfl (lv_at hl 0 rfl) ?_
        refine lv_bipush hx hb dX6_readOrder_138 jx_kb8 ?_
        refine lv_icmp_ne (tgt := 156) hx hb dX6_readOrder_140 rfl (fun c8 => ?_) (fun c8 => ?_)
        · rw [if_neg c8] at h
          refine lv_iload_n hx hb dX6_readOrder_156 rfl (lv_at hl 0 rfl) ?_
          refine lv_iconst hx hb dX6_readOrder_157 jx_ki3 ?_
          refine lv_icmp_ne (tgt := 167) hx hb dX6_readOrder_158 rfl (fun c9 => ?_) (fun c9 => ?_)
          · rw [if_neg c9] at h
            refine lv_iload_n hx hb dX6_readOrder_167 rfl (lv_at hl 0 rfl) ?_
            refine lv_iconst hx hb dX6_readOrder_168 jx_ki2 ?_
            refine lv_icmp_eq (tgt := 177) hx hb dX6_readOrder_169 rfl (fun c10 => ?_) (fun c10 => ?_)
            · rw [if_pos c10] at h
              exact jm_readOrder_b177_ok hX F _ _ h _ _ _ hP hD hS (lv_sub hl [1, 2] rfl)
            · rw [if_neg c10] at h
              refine lv_iload_n hx hb dX6_readOrder_172 rfl (lv_at hl 0 rfl) ?_
              refine lv_iconst hx hb dX6_readOrder_173 jx_ki5 ?_
              refine lv_icmp_ne (tgt := 191) hx hb dX6_readOrder_174 rfl (fun c11 => ?_) (fun c11 => ?_)
              · rw [if_neg c11] at h
                refine lv_aload_n hx hb dX6_readOrder_191 rfl (lv_at hl 1 rfl) ?_
                refine lv_iload_n hx hb dX6_readOrder_192 rfl (lv_at hl 2 rfl) ?_
                refine lv_iconst hx hb dX6_readOrder_193 jx_ki5 ?_
                refine lv_iadd hx hb dX6_readOrder_194 ?_
                refine lv_aload_n hx hb dX6_readOrder_195 rfl (lv_at hl 1 rfl) ?_
                obtain ⟨q12, eq12, h⟩ := jx_bi_some h
                refine jm_callI hx hb hml hown hts hlv hK hZ (jm_readCell_met eq12) jm_readCell_g jm_readCell_d (As := []) (Nat.le_of_ble_eq_true rfl) (Nat.le_of_ble_eq_true rfl) hP hD hS hl.1 rfl rfl (lv_room (Nat.le_of_ble_eq_true rfl)) dX6_readOrder_196 (fun H locs hP hD hS => ?_)
                obtain ⟨q13, eq13, h⟩ := jx_bi_some h
                refine jm_callI hx hb hml hown hts hlv hK hZ (jm_tells_met eq13) jm_tells_g jm_tells_d (As := [.int (x2 + (nI 5)), .int q12.1]) (Nat.le_of_ble_eq_true rfl) (Nat.le_of_ble_eq_true rfl) hP hD hS hl.1 rfl rfl (lv_room (Nat.le_of_ble_eq_true rfl)) dX6_readOrder_199 (fun H locs hP hD hS => ?_)
                refine lv_if_ne (tgt := 207) hx hb dX6_readOrder_202 rfl (fun c14 => ?_) (fun c14 => ?_)
                · rw [if_neg c14] at h
                  refine lv_iload_n hx hb dX6_readOrder_207 rfl (lv_at hl 0 rfl) ?_
                  refine lv_if_ne (tgt := 217) hx hb dX6_readOrder_208 rfl (fun c15 => ?_) (fun c15 => ?_)
                  · rw [if_neg c15] at h
                    refine lv_iload_n hx hb dX6_readOrder_217 rfl (lv_at hl 0 rfl) ?_
                    refine lv_iconst hx hb dX6_readOrder_218 jx_ki1 ?_
                    refine lv_icmp_ne (tgt := 253) hx hb dX6_readOrder_219 rfl (fun c16 => ?_) (fun c16 => ?_)
                    · rw [if_neg c16] at h
                      refine lv_aload_n hx hb dX6_readOrder_253 rfl (lv_at hl 1 rfl) ?_
                      refine jm_ldcS (i := 13) (ix := 216) (tx := "kind") hx hb hown hZ (by decide) rfl rfl dX6_readOrder_254 ?_
                      obtain ⟨q17, eq17, h⟩ := jx_bi_some h
                      refine jm_callI hx hb hml hown hts hlv hK hZ (jm_passes_met eq17) jm_passes_g jm_passes_d (As := [.ref (sa 13)]) (Nat.le_of_ble_eq_true rfl) (Nat.le_of_ble_eq_true rfl) hP hD hS hl.1 rfl rfl (lv_room (Nat.le_of_ble_eq_true rfl)) dX6_readOrder_256 (fun H locs hP hD hS => ?_)
                      refine lv_if_eq (tgt := 277) hx hb dX6_readOrder_259 rfl (fun c18 => ?_) (fun c18 => ?_)
                      · rw [if_pos c18] at h
                        refine lv_iconst hx hb dX6_readOrder_277 jx_ki1 ?_
                        refine lv_goto (tgt := 282) hx hb dX6_readOrder_278 rfl ?_
                        exact jm_zret hx hb hr hlk hK hZ hP hD hS jx_nz1 h dX6_readOrder_282
                      · rw [if_neg c18] at h
                        refine lv_aload_n hx hb dX6_readOrder_262 rfl (lv_at hl 1 rfl) ?_
                        refine lv_iload_n hx hb dX6_readOrder_263 rfl (lv_at hl 2 rfl) ?_
                        refine lv_iconst hx hb dX6_readOrder_264 jx_ki3 ?_
                        refine lv_iadd hx hb dX6_readOrder_265 ?_
                        refine lv_aload_n hx hb dX6_readOrder_266 rfl (lv_at hl 1 rfl) ?_
                        refine lv_iconst hx hb dX6_readOrder_267 jx_ki3 ?_
                        obtain ⟨q19, eq19, h⟩ := jx_bi_some h
                        refine jm_callI hx hb hml hown hts hlv hK hZ (jm_number_met eq19) jm_number_g jm_number_d (As := [.int (nI 3)]) (Nat.le_of_ble_eq_true rfl) (Nat.le_of_ble_eq_true rfl) hP hD hS hl.1 rfl rfl (lv_room (Nat.le_of_ble_eq_true rfl)) dX6_readOrder_268 (fun H locs hP hD hS => ?_)
                        obtain ⟨q20, eq20, h⟩ := jx_bi_some h
                        refine jm_callI hx hb hml hown hts hlv hK hZ (jm_tells_met eq20) jm_tells_g jm_tells_d (As := [.int (x2 + (nI 3)), .int q19.1]) (Nat.le_of_ble_eq_true rfl) (Nat.le_of_ble_eq_true rfl) hP hD hS hl.1 rfl rfl (lv_room (Nat.le_of_ble_eq_true rfl)) dX6_readOrder_271 (fun H locs hP hD hS => ?_)
                        refine lv_if_eq (tgt := 281) hx hb dX6_readOrder_274 rfl (fun c21 => ?_) (fun c21 => ?_)
                        · rw [if_pos c21] at h
                          refine lv_iconst hx hb dX6_readOrder_281 jx_ki0 ?_
                          exact jm_zret hx hb hr hlk hK hZ hP hD hS jx_nz0 h dX6_readOrder_282
                        · rw [if_neg c21] at h
                          refine lv_iconst hx hb dX6_readOrder_277 jx_ki1 ?_
                          refine lv_goto (tgt := 282) hx hb dX6_readOrder_278 rfl ?_
                          exact jm_zret hx hb hr hlk hK hZ hP hD hS jx_nz1 h dX6_readOrder_282
                    · rw [if_pos c16] at h
                      refine lv_aload_n hx hb dX6_readOrder_222 rfl (lv_at hl 1 rfl) ?_
                      refine jm_ldcS (i := 12) (ix := 214) (tx := "at") hx hb hown hZ (by decide) rfl rfl dX6_readOrder_223 ?_
                      obtain ⟨q22, eq22, h⟩ := jx_bi_some h
                      refine jm_callI hx hb hml hown hts hlv hK hZ (jm_needs_met eq22) jm_needs_g jm_needs_d (As := [.ref (sa 12)]) (Nat.le_of_ble_eq_true rfl) (Nat.le_of_ble_eq_true rfl) hP hD hS hl.1 rfl rfl (lv_room (Nat.le_of_ble_eq_true rfl)) dX6_readOrder_225 (fun H locs hP hD hS => ?_)
                      refine lv_if_eq (tgt := 251) hx hb dX6_readOrder_228 rfl (fun c23 => ?_) (fun c23 => ?_)
                      · rw [if_pos c23] at h
                        refine lv_iconst hx hb dX6_readOrder_251 jx_ki0 ?_
                        exact jm_zret hx hb hr hlk hK hZ hP hD hS jx_nz0 h dX6_readOrder_252
                      · rw [if_neg c23] at h
                        refine lv_aload_n hx hb dX6_readOrder_231 rfl (lv_at hl 1 rfl) ?_
                        refine lv_iload_n hx hb dX6_readOrder_232 rfl (lv_at hl 2 rfl) ?_
                        refine lv_iconst hx hb dX6_readOrder_233 jx_ki4 ?_
                        refine lv_iadd hx hb dX6_readOrder_234 ?_
                        refine lv_aload_n hx hb dX6_readOrder_235 rfl (lv_at hl 1 rfl) ?_
                        refine lv_bipush hx hb dX6_readOrder_236 jx_kb39 ?_
                        obtain ⟨q24, eq24, h⟩ := jx_bi_some h
                        refine jm_callI hx hb hml hown hts hlv hK hZ (jm_number_met eq24) jm_number_g jm_number_d (As := [.int (nI 39)]) (Nat.le_of_ble_eq_true rfl) (Nat.le_of_ble_eq_true rfl) hP hD hS hl.1 rfl rfl (lv_room (Nat.le_of_ble_eq_true rfl)) dX6_readOrder_238 (fun H locs hP hD hS => ?_)
                        obtain ⟨q25, eq25, h⟩ := jx_bi_some h
                        refine jm_callI hx hb hml hown hts hlv hK hZ (jm_tells_met eq25) jm_tells_g jm_tells_d (As := [.int (x2 + (nI 4)), .int q24.1]) (Nat.le_of_ble_eq_true rfl) (Nat.le_of_ble_eq_true rfl) hP hD hS hl.1 rfl rfl (lv_room (Nat.le_of_ble_eq_true rfl)) dX6_readOrder_241 (fun H locs hP hD hS => ?_)
                        refine lv_if_eq (tgt := 251) hx hb dX6_readOrder_244 rfl (fun c26 => ?_) (fun c26 => ?_)
                        · rw [if_pos c26] at h
                          refine lv_iconst hx hb dX6_readOrder_251 jx_ki0 ?_
                          exact jm_zret hx hb hr hlk hK hZ hP hD hS jx_nz0 h dX6_readOrder_252
                        · rw [if_neg c26] at h
                          refine lv_iconst hx hb dX6_readOrder_247 jx_ki1 ?_
                          refine lv_goto (tgt := 252) hx hb dX6_readOrder_248 rfl ?_
                          exact jm_zret hx hb hr hlk hK hZ hP hD hS jx_nz1 h dX6_readOrder_252
                  · rw [if_pos c15] at h
                    refine lv_aload_n hx hb dX6_readOrder_211 rfl (lv_at hl 1 rfl) ?_
                    refine lv_iload_n hx hb dX6_readOrder_212 rfl (lv_at hl 2 rfl) ?_
                    obtain ⟨q27, eq27, h⟩ := jx_bi_some h
                    refine jm_callI hx hb hml hown hts hlv hK hZ (jm_readSum_met eq27) jm_readSum_g jm_readSum_d (As := [.int x2]) (Nat.le_of_ble_eq_true rfl) (Nat.le_of_ble_eq_true rfl) hP hD hS hl.1 rfl rfl (lv_room (Nat.le_of_ble_eq_true rfl)) dX6_readOrder_213 (fun H locs hP hD hS => ?_)
                    obtain ⟨z28, h⟩ := jx_gz_some h
                    exact jm_zret hx hb hr hlk hK hZ hP hD hS z28 h dX6_readOrder_216
                · rw [if_pos c14] at h
                  refine lv_iconst hx hb dX6_readOrder_205 jx_ki0 ?_
                  exact jm_zret hx hb hr hlk hK hZ hP hD hS jx_nz0 h dX6_readOrder_206
              · rw [if_pos c11] at h
                exact jm_readOrder_b177_ok hX F _ _ h _ _ _ hP hD hS (lv_sub hl [1, 2] rfl)
          · rw [if_pos c9] at h
            refine lv_aload_n hx hb dX6_readOrder_161 rfl (lv_at hl 1 rfl) ?_
            refine lv_iload_n hx hb dX6_readOrder_162 rfl (lv_at hl 2 rfl) ?_
            obtain ⟨q29, eq29, h⟩ := jx_bi_some h
            refine jm_callI hx hb hml hown hts hlv hK hZ (jm_readIf_met eq29) jm_readIf_g jm_readIf_d (As := [.int x2]) (Nat.le_of_ble_eq_true rfl) (Nat.le_of_ble_eq_true rfl) hP hD hS hl.1 rfl rfl (lv_room (Nat.le_of_ble_eq_true rfl)) dX6_readOrder_163 (fun H locs hP hD hS => ?_)
            obtain ⟨z30, h⟩ := jx_gz_some h
            exact jm_zret hx hb hr hlk hK hZ hP hD hS z30 h dX6_readOrder_166
        · rw [if_pos c8] at h
          refine lv_aload_n hx hb dX6_readOrder_143 rfl (lv_at hl 1 rfl) ?_
          refine lv_iload_n hx hb dX6_readOrder_144 rfl (lv_at hl 2 rfl) ?_
          refine lv_bipush hx hb dX6_readOrder_145 jx_kb6 ?_
          refine lv_iadd hx hb dX6_readOrder_147 ?_
          refine lv_aload_n hx hb dX6_readOrder_148 rfl (lv_at hl 1 rfl) ?_
          obtain ⟨q31, eq31, h⟩ := jx_bi_some h
          refine jm_callI hx hb hml hown hts hlv hK hZ (jm_readAtom_met eq31) jm_readAtom_g jm_readAtom_d (As := []) (Nat.le_of_ble_eq_true rfl) (Nat.le_of_ble_eq_true rfl) hP hD hS hl.1 rfl rfl (lv_room (Nat.le_of_ble_eq_true rfl)) dX6_readOrder_149 (fun H locs hP hD hS => ?_)
          obtain ⟨q32, eq32, h⟩ := jx_bi_some h
          refine jm_callI hx hb hml hown hts hlv hK hZ (jm_tells_met eq32) jm_tells_g jm_tells_d (As := [.int (x2 + (nI 6)), .int q31.1]) (Nat.le_of_ble_eq_true rfl) (Nat.le_of_ble_eq_true rfl) hP hD hS hl.1 rfl rfl (lv_room (Nat.le_of_ble_eq_true rfl)) dX6_readOrder_152 (fun H locs hP hD hS => ?_)
          obtain ⟨z33, h⟩ := jx_gz_some h
          exact jm_zret hx hb hr hlk hK hZ hP hD hS z33 h dX6_readOrder_155
      · rw [if_pos c7] at h
        refine lv_iconst hx hb dX6_readOrder_135 jx_ki1 ?_
        exact jm_zret hx hb hr hlk hK hZ hP hD hS jx_nz1 h dX6_readOrder_136
  · rw [if_neg c5] at h
    refine lv_iconst hx hb dX6_readOrder_121 jx_ki0 ?_
    exact jm_zret hx hb hr hlk hK hZ hP hD hS jx_nz0 h dX6_readOrder_122
theorem jm_readOrder_L24_ok {out : Int32 × jm_S} (hX : jm_Ok p R s m args meth c A D ck ad sa cX6_readOrder 4 (some .boolean) 9) (F : Nat) {r24 : Int32 × Int32 × jm_S → Option (Int32 × jm_S)} (hr24 : ∀ a, r24 a = some out → jm_J p l e R s m args below meth c A D ck ad 4 (jm_Qi below args s A D ck ad sa out) 24 [(0, .ref (ad 0)), (2, .int a.1), (3, .int a.2.1)] [] a.2.2) (x2 : Int32) (x3 : Int32) (S : jm_S) (h : jm_readOrder_L24 F r24 x2 x3 S = some out) : jm_J p l e R s m args below meth c A D ck ad 4 (jm_Qi below args s A D ck ad sa out) 24 [(0, .ref (ad 0)), (2, .int x2), (3, .int x3)] [] S := by
  intro H locs ls hP hD hS hl
  have hX0 := hX
  obtain ⟨hx, hb, hml, hown, hts, hlk, hr, hlv, hK, hZ⟩ := hX0
  unfold jm_readOrder_L24 at h
  refine lv_iload_n hx hb dX6_readOrder_24 rfl (lv_at hl 2 rfl) ?_
  refine lv_bipush hx hb dX6_readOrder_25 jx_kb9 ?_
  refine lv_icmp_ge (tgt := 45) hx hb dX6_readOrder_27 rfl (fun c1 => ?_) (fun c1 => ?_)
  · rw [if_pos c1] at h
    refine lv_aload_n hx hb dX6_readOrder_45 rfl (lv_at hl 0 rfl) ?_
    refine jm_get hx hb hts hown hK hP jm_f11 (by decide) jm_g11 dX6_readOrder_46 ?_
    refine lv_iload_n hx hb dX6_readOrder_49 rfl (lv_at hl 1 rfl) ?_
    refine lv_iconst hx hb dX6_readOrder_50 jx_ki1 ?_
    refine lv_iadd hx hb dX6_readOrder_51 ?_
    refine lv_iconst hx hb dX6_readOrder_52 jx_kim1 ?_
    obtain ⟨j2, ej2, bj2, h⟩ := jx_ga_some h
    obtain ⟨S3, eS3, h⟩ := jx_nx_some h
    refine jm_iast hx hb hK hP hD hS jm_a11 (fun f => jm_u11 f) ej2 bj2 eS3 dX6_readOrder_53 (fun H locs hP hD hS => ?_)
    refine lv_aload_n hx hb dX6_readOrder_54 rfl (lv_at hl 0 rfl) ?_
    refine jm_get hx hb hts hown hK hP jm_f11 (by decide) jm_g11 dX6_readOrder_55 ?_
    refine lv_iload_n hx hb dX6_readOrder_58 rfl (lv_at hl 1 rfl) ?_
    refine lv_iconst hx hb dX6_readOrder_59 jx_ki4 ?_
    refine lv_iadd hx hb dX6_readOrder_60 ?_
    refine lv_iconst hx hb dX6_readOrder_61 jx_kim1 ?_
    obtain ⟨j4, ej4, bj4, h⟩ := jx_ga_some h
    obtain ⟨S5, eS5, h⟩ := jx_nx_some h
    refine jm_iast hx hb hK hP hD hS jm_a11 (fun f => jm_u11 f) ej4 bj4 eS5 dX6_readOrder_62 (fun H locs hP hD hS => ?_)
    refine lv_aload_n hx hb dX6_readOrder_63 rfl (lv_at hl 0 rfl) ?_
    refine jm_get hx hb hts hown hK hP jm_f11 (by decide) jm_g11 dX6_readOrder_64 ?_
    refine lv_iload_n hx hb dX6_readOrder_67 rfl (lv_at hl 1 rfl) ?_
    refine lv_bipush hx hb dX6_readOrder_68 jx_kb7 ?_
    refine lv_iadd hx hb dX6_readOrder_70 ?_
    refine lv_iconst hx hb dX6_readOrder_71 jx_kim1 ?_
    obtain ⟨j6, ej6, bj6, h⟩ := jx_ga_some h
    obtain ⟨S7, eS7, h⟩ := jx_nx_some h
    refine jm_iast hx hb hK hP hD hS jm_a11 (fun f => jm_u11 f) ej6 bj6 eS7 dX6_readOrder_72 (fun H locs hP hD hS => ?_)
    refine lv_aload_n hx hb dX6_readOrder_73 rfl (lv_at hl 0 rfl) ?_
    refine jm_ldcS (i := 10) (ix := 200) (tx := "entry") hx hb hown hZ (by decide) rfl rfl dX6_readOrder_74 ?_
    obtain ⟨q8, eq8, h⟩ := jx_bi_some h
    refine jm_callI hx hb hml hown hts hlv hK hZ (jm_isWord_met eq8) jm_isWord_g jm_isWord_d (As := [.ref (sa 10)]) (Nat.le_of_ble_eq_true rfl) (Nat.le_of_ble_eq_true rfl) hP hD hS hl.1 rfl rfl (lv_room (Nat.le_of_ble_eq_true rfl)) dX6_readOrder_76 (fun H locs hP hD hS => ?_)
    refine lv_if_eq (tgt := 103) hx hb dX6_readOrder_79 rfl (fun c9 => ?_) (fun c9 => ?_)
    · rw [if_pos c9] at h
      exact jm_readOrder_b103_ok hX F _ _ h _ _ _ hP hD hS (lv_sub hl [0, 1] rfl)
    · rw [if_neg c9] at h
      refine lv_aload_n hx hb dX6_readOrder_82 rfl (lv_at hl 0 rfl) ?_
      refine lv_iload_n hx hb dX6_readOrder_83 rfl (lv_at hl 1 rfl) ?_
      refine lv_iconst hx hb dX6_readOrder_84 jx_ki1 ?_
      refine lv_iadd hx hb dX6_readOrder_85 ?_
      refine lv_aload_n hx hb dX6_readOrder_86 rfl (lv_at hl 0 rfl) ?_
      refine lv_iconst hx hb dX6_readOrder_87 jx_ki3 ?_
      obtain ⟨q10, eq10, h⟩ := jx_bi_some h
      refine jm_callI hx hb hml hown hts hlv hK hZ (jm_number_met eq10) jm_number_g jm_number_d (As := [.int (nI 3)]) (Nat.le_of_ble_eq_true rfl) (Nat.le_of_ble_eq_true rfl) hP hD hS hl.1 rfl rfl (lv_room (Nat.le_of_ble_eq_true rfl)) dX6_readOrder_88 (fun H locs hP hD hS => ?_)
      obtain ⟨q11, eq11, h⟩ := jx_bi_some h
      refine jm_callI hx hb hml hown hts hlv hK hZ (jm_tells_met eq11) jm_tells_g jm_tells_d (As := [.int (x2 + (nI 1)), .int q10.1]) (Nat.le_of_ble_eq_true rfl) (Nat.le_of_ble_eq_true rfl) hP hD hS hl.1 rfl rfl (lv_room (Nat.le_of_ble_eq_true rfl)) dX6_readOrder_91 (fun H locs hP hD hS => ?_)
      refine lv_if_ne (tgt := 99) hx hb dX6_readOrder_94 rfl (fun c12 => ?_) (fun c12 => ?_)
      · rw [if_neg c12] at h
        refine lv_aload_n hx hb dX6_readOrder_99 rfl (lv_at hl 0 rfl) ?_
        obtain ⟨q13, eq13, h⟩ := jx_bi_some h
        refine jm_callV hx hb hml hown hts hlv hK hZ (jm_letters_met eq13) jm_letters_g jm_letters_d (As := []) (Nat.le_of_ble_eq_true rfl) (Nat.le_of_ble_eq_true rfl) hP hD hS hl.1 rfl rfl (lv_room (Nat.le_of_ble_eq_true rfl)) dX6_readOrder_100 (fun H locs hP hD hS => ?_)
        exact jm_readOrder_b103_ok hX F _ _ h _ _ _ hP hD hS (lv_sub hl [0, 1] rfl)
      · rw [if_pos c12] at h
        refine lv_iconst hx hb dX6_readOrder_97 jx_ki0 ?_
        exact jm_zret hx hb hr hlk hK hZ hP hD hS jx_nz0 h dX6_readOrder_98
  · rw [if_neg c1] at h
    refine lv_aload_n hx hb dX6_readOrder_30 rfl (lv_at hl 0 rfl) ?_
    refine jm_get hx hb hts hown hK hP jm_f11 (by decide) jm_g11 dX6_readOrder_31 ?_
    refine lv_iload_n hx hb dX6_readOrder_34 rfl (lv_at hl 1 rfl) ?_
    refine lv_iload_n hx hb dX6_readOrder_35 rfl (lv_at hl 2 rfl) ?_
    refine lv_iadd hx hb dX6_readOrder_36 ?_
    refine lv_iconst hx hb dX6_readOrder_37 jx_ki0 ?_
    obtain ⟨j14, ej14, bj14, h⟩ := jx_ga_some h
    obtain ⟨S15, eS15, h⟩ := jx_nx_some h
    refine jm_iast hx hb hK hP hD hS jm_a11 (fun f => jm_u11 f) ej14 bj14 eS15 dX6_readOrder_38 (fun H locs hP hD hS => ?_)
    obtain ⟨y16, ey16, h⟩ := jx_nx_some h
    refine lv_iinc (v := y16) (lv' := [(3, .int y16), (0, .ref (ad 0)), (2, .int x2)]) hx hb dX6_readOrder_39 hl (k := 2) rfl (jx_inc jx_ki1 ey16) (Nat.le_of_ble_eq_true rfl) rfl (fun ls hl => ?_)
    refine lv_goto (tgt := 24) hx hb dX6_readOrder_42 rfl ?_
    exact hr24 _ h _ _ _ hP hD hS (lv_sub hl [1, 2, 0] rfl)
theorem jm_readOrder_h24_ok {out : Int32 × jm_S} (hX : jm_Ok p R s m args meth c A D ck ad sa cX6_readOrder 4 (some .boolean) 9) (F : Nat) (n : Nat) (a : Int32 × Int32 × jm_S) (h : jm_readOrder_h24 F n a = some out) : jm_J p l e R s m args below meth c A D ck ad 4 (jm_Qi below args s A D ck ad sa out) 24 [(0, .ref (ad 0)), (2, .int a.1), (3, .int a.2.1)] [] a.2.2 :=
  jx_loop_ind (J := fun a => jm_J p l e R s m args below meth c A D ck ad 4 (jm_Qi below args s A D ck ad sa out) 24 [(0, .ref (ad 0)), (2, .int a.1), (3, .int a.2.1)] [] a.2.2) (fun r hr a h => jm_readOrder_L24_ok hX F hr a.1 a.2.1 a.2.2 h) n a h
theorem jm_readOrder_ok {out : Int32 × jm_S} (hX : jm_Ok p R s m args meth c A D ck ad sa cX6_readOrder 4 (some .boolean) 9) (F : Nat) (x1 : Int32) (S : jm_S) (h : jm_readOrder F x1 S = some out) : jm_J p l e R s m args below meth c A D ck ad 4 (jm_Qi below args s A D ck ad sa out) 0 [(0, .ref (ad 0)), (1, .int x1)] [] S := by
  intro H locs ls hP hD hS hl
  have hX0 := hX
  obtain ⟨hx, hb, hml, hown, hts, hlk, hr, hlv, hK, hZ⟩ := hX0
  unfold jm_readOrder at h
  refine lv_aload_n hx hb dX6_readOrder_0 rfl (lv_at hl 0 rfl) ?_
  obtain ⟨q1, eq1, h⟩ := jx_bi_some h
  refine jm_callV hx hb hml hown hts hlv hK hZ (jm_letters_met eq1) jm_letters_g jm_letters_d (As := []) (Nat.le_of_ble_eq_true rfl) (Nat.le_of_ble_eq_true rfl) hP hD hS hl.1 rfl rfl (lv_room (Nat.le_of_ble_eq_true rfl)) dX6_readOrder_1 (fun H locs hP hD hS => ?_)
  refine lv_aload_n hx hb dX6_readOrder_4 rfl (lv_at hl 0 rfl) ?_
  obtain ⟨q2, eq2, h⟩ := jx_bi_some h
  refine jm_callI hx hb hml hown hts hlv hK hZ (jm_orders_met eq2) jm_orders_g jm_orders_d (As := []) (Nat.le_of_ble_eq_true rfl) (Nat.le_of_ble_eq_true rfl) hP hD hS hl.1 rfl rfl (lv_room (Nat.le_of_ble_eq_true rfl)) dX6_readOrder_5 (fun H locs hP hD hS => ?_)
  refine lv_iload_n hx hb dX6_readOrder_8 rfl (lv_at hl 1 rfl) ?_
  refine lv_iadd hx hb dX6_readOrder_9 ?_
  refine lv_bipush hx hb dX6_readOrder_10 jx_kb40 ?_
  refine lv_icmp_ne (tgt := 17) hx hb dX6_readOrder_12 rfl (fun c3 => ?_) (fun c3 => ?_)
  · rw [if_neg c3] at h
    refine lv_bipush hx hb dX6_readOrder_17 jx_kb9 ?_
    refine lv_iload_n hx hb dX6_readOrder_19 rfl (lv_at hl 1 rfl) ?_
    refine lv_imul hx hb dX6_readOrder_20 ?_
    obtain ⟨y4, ey4, h⟩ := jx_nx_some h
    refine jx_topi ey4 ?_
    refine lv_istore_n (lv' := [(2, .int y4), (0, .ref (ad 0)), (1, .int x1)]) hx hb dX6_readOrder_21 rfl hl (Nat.le_of_ble_eq_true rfl) rfl (fun ls hl => ?_)
    refine lv_iconst hx hb dX6_readOrder_22 jx_ki0 ?_
    obtain ⟨y5, ey5, h⟩ := jx_nx_some h
    refine jx_topi ey5 ?_
    refine lv_istore_n (lv' := [(3, .int y5), (2, .int y4), (0, .ref (ad 0)), (1, .int x1)]) hx hb dX6_readOrder_23 rfl hl (Nat.le_of_ble_eq_true rfl) rfl (fun ls hl => ?_)
    exact jm_readOrder_h24_ok hX F F _ h _ _ _ hP hD hS (lv_sub hl [2, 1, 0] rfl)
  · rw [if_pos c3] at h
    refine lv_iconst hx hb dX6_readOrder_15 jx_ki0 ?_
    exact jm_zret hx hb hr hlk hK hZ hP hD hS jx_nz0 h dX6_readOrder_16
theorem jm_readOrder_met {l : Launch} {D : va_G} {ck : Nat → ClassId} {ad sa : Nat → Nat} {A : Nat → Prop} {F : Nat} {x1 : Int32} {S : jm_S} {out : Int32 × jm_S} (h : jm_readOrder F x1 S = some out) : jm_Mi l D ck ad sa A yX6_readOrder cX6_readOrder 4 (some .boolean) 9 [.int x1] S out :=
  jm_Mi_of ⟨by decide, rfl, Nat.le_of_ble_eq_true rfl⟩ (fun hX => jm_readOrder_ok hX F x1 S h)
theorem jm_readAll_d : yX6_readAll.cls = RX6 ∧ yX6_readAll.cls ≠ "java/lang/invoke/MethodHandle" ∧ yX6_readAll.cls ≠ "java/lang/invoke/VarHandle" ∧ (parseMethodDescriptor yX6_readAll.desc).map (fun d => d.parameters.length) = some 0 := by decide +kernel
theorem jm_readAll_g : GoodIn lw_all (wsV RX6 227 RX6 yX6_readAll (ws_ yX6_readAll cX6_readAll 2 (some .int))) := lw_V q1716 q1718 qs35 q110 q1719
theorem jm_readAll_L19_ok {out : Int32 × jm_S} (hX : jm_Ok p R s m args meth c A D ck ad sa cX6_readAll 2 (some .int) 10) (F : Nat) {r19 : Int32 × jm_S → Option (Int32 × jm_S)} (hr19 : ∀ a, r19 a = some out → jm_J p l e R s m args below meth c A D ck ad 2 (jm_Qi below args s A D ck ad sa out) 19 [(0, .ref (ad 0)), (1, .int a.1)] [] a.2) (x1 : Int32) (S : jm_S) (h : jm_readAll_L19 F r19 x1 S = some out) : jm_J p l e R s m args below meth c A D ck ad 2 (jm_Qi below args s A D ck ad sa out) 19 [(0, .ref (ad 0)), (1, .int x1)] [] S := by
  intro H locs ls hP hD hS hl
  have hX0 := hX
  obtain ⟨hx, hb, hml, hown, hts, hlk, hr, hlv, hK, hZ⟩ := hX0
  unfold jm_readAll_L19 at h
  refine lv_aload_n hx hb dX6_readAll_19 rfl (lv_at hl 0 rfl) ?_
  refine lv_iload_n hx hb dX6_readAll_20 rfl (lv_at hl 1 rfl) ?_
  obtain ⟨q1, eq1, h⟩ := jx_bi_some h
  refine jm_callI hx hb hml hown hts hlv hK hZ (jm_readOrder_met eq1) jm_readOrder_g jm_readOrder_d (As := [.int x1]) (Nat.le_of_ble_eq_true rfl) (Nat.le_of_ble_eq_true rfl) hP hD hS hl.1 rfl rfl (lv_room (Nat.le_of_ble_eq_true rfl)) dX6_readAll_21 (fun H locs hP hD hS => ?_)
  refine lv_if_ne (tgt := 29) hx hb dX6_readAll_24 rfl (fun c2 => ?_) (fun c2 => ?_)
  · rw [if_neg c2] at h
    refine lv_aload_n hx hb dX6_readAll_29 rfl (lv_at hl 0 rfl) ?_
    obtain ⟨q3, eq3, h⟩ := jx_bi_some h
    refine jm_callV hx hb hml hown hts hlv hK hZ (jm_blanks_met eq3) jm_blanks_g jm_blanks_d (As := []) (Nat.le_of_ble_eq_true rfl) (Nat.le_of_ble_eq_true rfl) hP hD hS hl.1 rfl rfl (lv_room (Nat.le_of_ble_eq_true rfl)) dX6_readAll_30 (fun H locs hP hD hS => ?_)
    refine lv_aload_n hx hb dX6_readAll_33 rfl (lv_at hl 0 rfl) ?_
    refine jm_get hx hb hts hown hK hP jm_f6 (by decide) jm_g6 dX6_readAll_34 ?_
    refine lv_aload_n hx hb dX6_readAll_37 rfl (lv_at hl 0 rfl) ?_
    refine jm_get hx hb hts hown hK hP jm_f7 (by decide) jm_g7 dX6_readAll_38 ?_
    refine lv_icmp_ne (tgt := 48) hx hb dX6_readAll_41 rfl (fun c4 => ?_) (fun c4 => ?_)
    · rw [if_neg c4] at h
      refine lv_aload_n hx hb dX6_readAll_48 rfl (lv_at hl 0 rfl) ?_
      refine lv_bipush hx hb dX6_readAll_49 jx_kb59 ?_
      refine lv_bipush hx hb dX6_readAll_51 jx_kb59 ?_
      obtain ⟨q5, eq5, h⟩ := jx_bi_some h
      refine jm_callI hx hb hml hown hts hlv hK hZ (jm_isAt_met eq5) jm_isAt_g jm_isAt_d (As := [.int (nI 59), .int (nI 59)]) (Nat.le_of_ble_eq_true rfl) (Nat.le_of_ble_eq_true rfl) hP hD hS hl.1 rfl rfl (lv_room (Nat.le_of_ble_eq_true rfl)) dX6_readAll_53 (fun H locs hP hD hS => ?_)
      refine lv_if_ne (tgt := 61) hx hb dX6_readAll_56 rfl (fun c6 => ?_) (fun c6 => ?_)
      · rw [if_neg c6] at h
        refine lv_aload_n hx hb dX6_readAll_61 rfl (lv_at hl 0 rfl) ?_
        refine lv_dup hx hb dX6_readAll_62 rfl ?_
        refine jm_get hx hb hts hown hK hP jm_f6 (by decide) jm_g6 dX6_readAll_63 ?_
        refine lv_iconst hx hb dX6_readAll_66 jx_ki1 ?_
        refine lv_iadd hx hb dX6_readAll_67 ?_
        obtain ⟨S7, eS7, h⟩ := jx_nx_some h
        refine jm_put hx hb hts hown hK hP hD hS eS7 jm_f6 (by decide) jm_n6 jm_d6 jm_p6 dX6_readAll_68 (fun H locs hP hD hS => ?_)
        obtain ⟨y8, ey8, h⟩ := jx_nx_some h
        refine lv_iinc (v := y8) (lv' := [(1, .int y8), (0, .ref (ad 0))]) hx hb dX6_readAll_71 hl (k := 1) rfl (jx_inc jx_ki1 ey8) (Nat.le_of_ble_eq_true rfl) rfl (fun ls hl => ?_)
        refine lv_goto (tgt := 19) hx hb dX6_readAll_74 rfl ?_
        exact hr19 _ h _ _ _ hP hD hS (lv_sub hl [1, 0] rfl)
      · rw [if_pos c6] at h
        refine lv_iconst hx hb dX6_readAll_59 jx_kim1 ?_
        exact jm_iret hx hb hr hlk hK hZ hP hD hS h dX6_readAll_60
    · rw [if_pos c4] at h
      refine lv_iload_n hx hb dX6_readAll_44 rfl (lv_at hl 1 rfl) ?_
      refine lv_iconst hx hb dX6_readAll_45 jx_ki1 ?_
      refine lv_iadd hx hb dX6_readAll_46 ?_
      exact jm_iret hx hb hr hlk hK hZ hP hD hS h dX6_readAll_47
  · rw [if_pos c2] at h
    refine lv_iconst hx hb dX6_readAll_27 jx_kim1 ?_
    exact jm_iret hx hb hr hlk hK hZ hP hD hS h dX6_readAll_28
theorem jm_readAll_h19_ok {out : Int32 × jm_S} (hX : jm_Ok p R s m args meth c A D ck ad sa cX6_readAll 2 (some .int) 10) (F : Nat) (n : Nat) (a : Int32 × jm_S) (h : jm_readAll_h19 F n a = some out) : jm_J p l e R s m args below meth c A D ck ad 2 (jm_Qi below args s A D ck ad sa out) 19 [(0, .ref (ad 0)), (1, .int a.1)] [] a.2 :=
  jx_loop_ind (J := fun a => jm_J p l e R s m args below meth c A D ck ad 2 (jm_Qi below args s A D ck ad sa out) 19 [(0, .ref (ad 0)), (1, .int a.1)] [] a.2) (fun r hr a h => jm_readAll_L19_ok hX F hr a.1 a.2 h) n a h
theorem jm_readAll_ok {out : Int32 × jm_S} (hX : jm_Ok p R s m args meth c A D ck ad sa cX6_readAll 2 (some .int) 10) (F : Nat)  (S : jm_S) (h : jm_readAll F  S = some out) : jm_J p l e R s m args below meth c A D ck ad 2 (jm_Qi below args s A D ck ad sa out) 0 [(0, .ref (ad 0))] [] S := by
  intro H locs ls hP hD hS hl
  have hX0 := hX
  obtain ⟨hx, hb, hml, hown, hts, hlk, hr, hlv, hK, hZ⟩ := hX0
  unfold jm_readAll at h
  refine lv_aload_n hx hb dX6_readAll_0 rfl (lv_at hl 0 rfl) ?_
  obtain ⟨q1, eq1, h⟩ := jx_bi_some h
  refine jm_callV hx hb hml hown hts hlv hK hZ (jm_blanks_met eq1) jm_blanks_g jm_blanks_d (As := []) (Nat.le_of_ble_eq_true rfl) (Nat.le_of_ble_eq_true rfl) hP hD hS hl.1 rfl rfl (lv_room (Nat.le_of_ble_eq_true rfl)) dX6_readAll_1 (fun H locs hP hD hS => ?_)
  refine lv_aload_n hx hb dX6_readAll_4 rfl (lv_at hl 0 rfl) ?_
  refine jm_get hx hb hts hown hK hP jm_f6 (by decide) jm_g6 dX6_readAll_5 ?_
  refine lv_aload_n hx hb dX6_readAll_8 rfl (lv_at hl 0 rfl) ?_
  refine jm_get hx hb hts hown hK hP jm_f7 (by decide) jm_g7 dX6_readAll_9 ?_
  refine lv_icmp_ne (tgt := 17) hx hb dX6_readAll_12 rfl (fun c2 => ?_) (fun c2 => ?_)
  · rw [if_neg c2] at h
    refine lv_iconst hx hb dX6_readAll_17 jx_ki0 ?_
    obtain ⟨y3, ey3, h⟩ := jx_nx_some h
    refine jx_topi ey3 ?_
    refine lv_istore_n (lv' := [(1, .int y3), (0, .ref (ad 0))]) hx hb dX6_readAll_18 rfl hl (Nat.le_of_ble_eq_true rfl) rfl (fun ls hl => ?_)
    exact jm_readAll_h19_ok hX F F _ h _ _ _ hP hD hS (lv_sub hl [1, 0] rfl)
  · rw [if_pos c2] at h
    refine lv_iconst hx hb dX6_readAll_15 jx_ki0 ?_
    exact jm_iret hx hb hr hlk hK hZ hP hD hS h dX6_readAll_16
theorem jm_readAll_met {l : Launch} {D : va_G} {ck : Nat → ClassId} {ad sa : Nat → Nat} {A : Nat → Prop} {F : Nat}  {S : jm_S} {out : Int32 × jm_S} (h : jm_readAll F  S = some out) : jm_Mi l D ck ad sa A yX6_readAll cX6_readAll 2 (some .int) 10 [] S out :=
  jm_Mi_of ⟨by decide, rfl, Nat.le_of_ble_eq_true rfl⟩ (fun hX => jm_readAll_ok hX F  S h)
end

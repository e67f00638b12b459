set_option maxRecDepth 100000
set_option maxHeartbeats 4000000
section
variable {p : Program} {l : Launch} {e : Env} {R : Room} {s : State} {m : MethodId} {args : Array Value} {below : List Frame} {meth : Method} {c : Code} {A : Nat → Prop} {D : va_G} {ck : Nat → ClassId} {ad sa : Nat → Nat} {lv : Nat}
theorem jm_joined_d : yX6_joined.cls = RX6 ∧ yX6_joined.cls ≠ "java/lang/invoke/MethodHandle" ∧ yX6_joined.cls ≠ "java/lang/invoke/VarHandle" ∧ (parseMethodDescriptor yX6_joined.desc).map (fun d => d.parameters.length) = some 1 := by decide +kernel
theorem jm_joined_b21_ok {out : Int32 × jm_S} (hX : jm_Ok p R s m args meth c A D ck ad sa cX6_joined 2 (some .int) 12) (F : Nat) (x1 : Int32) (k0 : Int32) (S : jm_S) (h : jm_joined_b21 F x1 k0 S = some out) : jm_J p l e R s m args below meth c A D ck ad 2 (jm_Qi below args s A D ck ad sa out) 21 [(0, .ref (ad 0)), (1, .int x1)] [.int k0, .ref (ad 0)] S := by
  intro H locs ls hP hD hS hl
  have hX0 := hX
  obtain ⟨hx, hb, hml, hown, hts, hlk, hr, hlv, hK, hZ⟩ := hX0
  unfold jm_joined_b21 at h
  refine lv_iconst hx hb dX6_joined_21 jx_ki1 ?_
  obtain ⟨q1, eq1, h⟩ := jx_bi_some h
  refine jm_callI hx hb hml hown hts hlv hK hZ (jm_throwsIf_met eq1) jm_throwsIf_g jm_throwsIf_d (As := [.int k0, .int (nI 1)]) (Nat.le_of_ble_eq_true rfl) (Nat.le_of_ble_eq_true rfl) hP hD hS hl.1 rfl rfl (lv_room (Nat.le_of_ble_eq_true rfl)) dX6_joined_22 (fun H locs hP hD hS => ?_)
  refine lv_if_eq (tgt := 30) hx hb dX6_joined_25 rfl (fun c2 => ?_) (fun c2 => ?_)
  · rw [if_pos c2] at h
    refine lv_aload_n hx hb dX6_joined_30 rfl (lv_at hl 0 rfl) ?_
    obtain ⟨q3, eq3, h⟩ := jx_bi_some h
    refine jm_callV hx hb hml hown hts hlv hK hZ (jm_gathers_met eq3) jm_gathers_g jm_gathers_d (As := []) (Nat.le_of_ble_eq_true rfl) (Nat.le_of_ble_eq_true rfl) hP hD hS hl.1 rfl rfl (lv_room (Nat.le_of_ble_eq_true rfl)) dX6_joined_31 (fun H locs hP hD hS => ?_)
    refine lv_aload_n hx hb dX6_joined_34 rfl (lv_at hl 0 rfl) ?_
    refine lv_iconst hx hb dX6_joined_35 jx_kim1 ?_
    obtain ⟨S4, eS4, h⟩ := jx_nx_some h
    refine jm_put hx hb hts hown hK hP hD hS eS4 jm_f49 (by decide) jm_n49 jm_d49 jm_p49 dX6_joined_36 (fun H locs hP hD hS => ?_)
    refine lv_aload_n hx hb dX6_joined_39 rfl (lv_at hl 0 rfl) ?_
    refine lv_iconst hx hb dX6_joined_40 jx_ki0 ?_
    refine lv_iconst hx hb dX6_joined_41 jx_ki0 ?_
    refine lv_iload_n hx hb dX6_joined_42 rfl (lv_at hl 1 rfl) ?_
    obtain ⟨q5, eq5, h⟩ := jx_bi_some h
    refine jm_callV hx hb hml hown hts hlv hK hZ (jm_parts_met eq5) jm_parts_g jm_parts_d (As := [.int (nI 0), .int (nI 0), .int x1]) (Nat.le_of_ble_eq_true rfl) (Nat.le_of_ble_eq_true rfl) hP hD hS hl.1 rfl rfl (lv_room (Nat.le_of_ble_eq_true rfl)) dX6_joined_43 (fun H locs hP hD hS => ?_)
    refine lv_aload_n hx hb dX6_joined_46 rfl (lv_at hl 0 rfl) ?_
    refine jm_get hx hb hts hown hK hP jm_f49 (by decide) jm_g49 dX6_joined_47 ?_
    exact jm_iret hx hb hr hlk hK hZ hP hD hS h dX6_joined_50
  · rw [if_neg c2] at h
    refine lv_iconst hx hb dX6_joined_28 jx_ki0 ?_
    exact jm_iret hx hb hr hlk hK hZ hP hD hS h dX6_joined_29
theorem jm_joined_ok {out : Int32 × jm_S} (hX : jm_Ok p R s m args meth c A D ck ad sa cX6_joined 2 (some .int) 12) (F : Nat) (x1 : Int32) (S : jm_S) (h : jm_joined F x1 S = some out) : jm_J p l e R s m args below meth c A D ck ad 2 (jm_Qi below args s A D ck ad sa out) 0 [(0, .ref (ad 0)), (1, .int x1)] [] S := by
  intro H locs ls hP hD hS hl
  have hX0 := hX
  obtain ⟨hx, hb, hml, hown, hts, hlk, hr, hlv, hK, hZ⟩ := hX0
  unfold jm_joined at h
  refine lv_aload_n hx hb dX6_joined_0 rfl (lv_at hl 0 rfl) ?_
  refine lv_iconst hx hb dX6_joined_1 jx_ki0 ?_
  obtain ⟨S1, eS1, h⟩ := jx_nx_some h
  refine jm_put hx hb hts hown hK hP hD hS eS1 jm_f0 (by decide) jm_n0 jm_d0 jm_p0 dX6_joined_2 (fun H locs hP hD hS => ?_)
  refine lv_aload_n hx hb dX6_joined_5 rfl (lv_at hl 0 rfl) ?_
  refine lv_iload_n hx hb dX6_joined_6 rfl (lv_at hl 1 rfl) ?_
  refine lv_iconst hx hb dX6_joined_7 jx_ki1 ?_
  refine lv_bipush hx hb dX6_joined_8 jx_kb16 ?_
  obtain ⟨q2, eq2, h⟩ := jx_bi_some h
  refine jx_callSi hx hb hml hown hts (jm_in_met eq2) jm_in_g_X6 jm_in_d (As := [.int x1, .int (nI 1), .int (nI 16)]) (by rw [hlv]; decide) hl.1 rfl rfl (lv_room (Nat.le_of_ble_eq_true rfl)) dX6_joined_10 (by rw [hlv]; exact ⟨Nat.zero_le _, Nat.zero_le _⟩) ?_
  refine lv_if_ne (tgt := 20) hx hb dX6_joined_13 rfl (fun c3 => ?_) (fun c3 => ?_)
  · rw [if_neg c3] at h
    refine lv_iconst hx hb dX6_joined_20 jx_ki0 ?_
    exact jm_joined_b21_ok hX F _ _ _ h _ _ _ hP hD hS hl
  · rw [if_pos c3] at h
    refine lv_iconst hx hb dX6_joined_16 jx_ki1 ?_
    refine lv_goto (tgt := 21) hx hb dX6_joined_17 rfl ?_
    exact jm_joined_b21_ok hX F _ _ _ h _ _ _ hP hD hS hl
theorem jm_joined_met {l : Launch} {D : va_G} {ck : Nat → ClassId} {ad sa : Nat → Nat} {A : Nat → Prop} {F : Nat} {x1 : Int32} {S : jm_S} {out : Int32 × jm_S} (h : jm_joined F x1 S = some out) : jm_Mi l D ck ad sa A yX6_joined cX6_joined 2 (some .int) 12 [.int x1] S out :=
  jm_Mi_of ⟨by decide, rfl, Nat.le_of_ble_eq_true rfl⟩ (fun hX => jm_joined_ok hX F x1 S h)
theorem jm_fence_d : yX6_fence.cls = RX6 ∧ yX6_fence.cls ≠ "java/lang/invoke/MethodHandle" ∧ yX6_fence.cls ≠ "java/lang/invoke/VarHandle" ∧ (parseMethodDescriptor yX6_fence.desc).map (fun d => d.parameters.length) = some 4 := by decide +kernel
theorem jm_fence_b150_ok {out : Int32 × jm_S} (hX : jm_Ok p R s m args meth c A D ck ad sa cX6_fence 11 (some .int) 9) (F : Nat) {r97 : Int32 × Int32 × Int64 × Int64 × Int64 × Int32 × jm_S → Option (Int32 × jm_S)} (hr97 : ∀ a, r97 a = some out → jm_J p l e R s m args below meth c A D ck ad 11 (jm_Qi below args s A D ck ad sa out) 97 [(0, .ref (ad 0)), (1, .int a.1), (2, .int a.2.1), (3, .long a.2.2.1), (6, .long a.2.2.2.1), (8, .long a.2.2.2.2.1), (10, .int a.2.2.2.2.2.1)] [] a.2.2.2.2.2.2) (x1 : Int32) (x2 : Int32) (x3 : Int64) (x6 : Int64) (x8 : Int64) (x10 : Int32) (S : jm_S) (h : jm_fence_b150 F r97 x1 x2 x3 x6 x8 x10 S = some out) : jm_J p l e R s m args below meth c A D ck ad 11 (jm_Qi below args s A D ck ad sa out) 150 [(0, .ref (ad 0)), (1, .int x1), (2, .int x2), (3, .long x3), (6, .long x6), (8, .long x8), (10, .int x10)] [] S := by
  intro H locs ls hP hD hS hl
  have hX0 := hX
  obtain ⟨hx, hb, hml, hown, hts, hlk, hr, hlv, hK, hZ⟩ := hX0
  unfold jm_fence_b150 at h
  obtain ⟨y1, ey1, h⟩ := jx_nx_some h
  refine lv_iinc (v := y1) (lv' := [(10, .int y1), (0, .ref (ad 0)), (1, .int x1), (2, .int x2), (3, .long x3), (6, .long x6), (8, .long x8)]) hx hb dX6_fence_150 hl (k := 6) rfl (jx_inc jx_ki1 ey1) (Nat.le_of_ble_eq_true rfl) rfl (fun ls hl => ?_)
  refine lv_goto (tgt := 97) hx hb dX6_fence_153 rfl ?_
  exact hr97 _ h _ _ _ hP hD hS (lv_sub hl [1, 2, 3, 4, 5, 6, 0] rfl)
theorem jm_fence_L97_ok {out : Int32 × jm_S} (hX : jm_Ok p R s m args meth c A D ck ad sa cX6_fence 11 (some .int) 9) (F : Nat) {r97 : Int32 × Int32 × Int64 × Int64 × Int64 × Int32 × jm_S → Option (Int32 × jm_S)} (hr97 : ∀ a, r97 a = some out → jm_J p l e R s m args below meth c A D ck ad 11 (jm_Qi below args s A D ck ad sa out) 97 [(0, .ref (ad 0)), (1, .int a.1), (2, .int a.2.1), (3, .long a.2.2.1), (6, .long a.2.2.2.1), (8, .long a.2.2.2.2.1), (10, .int a.2.2.2.2.2.1)] [] a.2.2.2.2.2.2) (x1 : Int32) (x2 : Int32) (x3 : Int64) (x6 : Int64) (x8 : Int64) (x10 : Int32) (S : jm_S) (h : jm_fence_L97 F r97 x1 x2 x3 x6 x8 x10 S = some out) : jm_J p l e R s m args below meth c A D ck ad 11 (jm_Qi below args s A D ck ad sa out) 97 [(0, .ref (ad 0)), (1, .int x1), (2, .int x2), (3, .long x3), (6, .long x6), (8, .long x8), (10, .int x10)] [] S := by
  intro H locs ls hP hD hS hl
  have hX0 := hX
  obtain ⟨hx, hb, hml, hown, hts, hlk, hr, hlv, hK, hZ⟩ := hX0
  unfold jm_fence_L97 at h
  refine lv_iload hx hb dX6_fence_97 (lv_at hl 6 rfl) ?_
  refine lv_aload_n hx hb dX6_fence_99 rfl (lv_at hl 0 rfl) ?_
  obtain ⟨q1, eq1, h⟩ := jx_bi_some h
  refine jm_callI hx hb hml hown hts hlv hK hZ (jm_orders_met eq1) jm_orders_g jm_orders_d (As := []) (Nat.le_of_ble_eq_true rfl) (Nat.le_of_ble_eq_true rfl) hP hD hS hl.1 rfl rfl (lv_room (Nat.le_of_ble_eq_true rfl)) dX6_fence_100 (fun H locs hP hD hS => ?_)
  refine lv_icmp_ge (tgt := 156) hx hb dX6_fence_103 rfl (fun c2 => ?_) (fun c2 => ?_)
  · rw [if_pos c2] at h
    refine lv_iconst hx hb dX6_fence_156 jx_kim1 ?_
    exact jm_iret hx hb hr hlk hK hZ hP hD hS h dX6_fence_157
  · rw [if_neg c2] at h
    refine lv_lload hx hb dX6_fence_106 (lv_at hl 4 rfl) ?_
    refine lv_iload hx hb dX6_fence_108 (lv_at hl 6 rfl) ?_
    obtain ⟨q3, eq3, h⟩ := jx_bi_some h
    refine jx_callSi hx hb hml hown hts (jm_has_met eq3) jm_has_g_X6 jm_has_d (As := [.long x6, .int x10]) (by rw [hlv]; decide) hl.1 rfl rfl (lv_room (Nat.le_of_ble_eq_true rfl)) dX6_fence_110 (by rw [hlv]; exact ⟨Nat.zero_le _, Nat.zero_le _⟩) ?_
    refine lv_if_eq (tgt := 150) hx hb dX6_fence_113 rfl (fun c4 => ?_) (fun c4 => ?_)
    · rw [if_pos c4] at h
      exact jm_fence_b150_ok hX F hr97 _ _ _ _ _ _ _ h _ _ _ hP hD hS hl
    · rw [if_neg c4] at h
      refine lv_iload hx hb dX6_fence_116 (lv_at hl 6 rfl) ?_
      refine lv_iload_n hx hb dX6_fence_118 rfl (lv_at hl 1 rfl) ?_
      refine lv_iload_n hx hb dX6_fence_119 rfl (lv_at hl 2 rfl) ?_
      obtain ⟨q5, eq5, h⟩ := jx_bi_some h
      refine jx_callSi hx hb hml hown hts (jm_in_met eq5) jm_in_g_X6 jm_in_d (As := [.int x10, .int x1, .int x2]) (by rw [hlv]; decide) hl.1 rfl rfl (lv_room (Nat.le_of_ble_eq_true rfl)) dX6_fence_120 (by rw [hlv]; exact ⟨Nat.zero_le _, Nat.zero_le _⟩) ?_
      refine lv_if_ne (tgt := 150) hx hb dX6_fence_123 rfl (fun c6 => ?_) (fun c6 => ?_)
      · rw [if_neg c6] at h
        exact jm_fence_b150_ok hX F hr97 _ _ _ _ _ _ _ h _ _ _ hP hD hS hl
      · rw [if_pos c6] at h
        refine lv_aload_n hx hb dX6_fence_126 rfl (lv_at hl 0 rfl) ?_
        refine jm_get hx hb hts hown hK hP jm_f35 (by decide) jm_g35 dX6_fence_127 ?_
        refine lv_iload hx hb dX6_fence_130 (lv_at hl 6 rfl) ?_
        obtain ⟨j7, ej7, bj7, h⟩ := jx_ga_some h
        refine jm_lald hx hb hK hP jm_a35 ej7 bj7 dX6_fence_132 ?_
        refine lv_lload hx hb dX6_fence_133 (lv_at hl 5 rfl) ?_
        refine lv_land hx hb dX6_fence_135 ?_
        refine lv_lload_n hx hb dX6_fence_136 rfl (lv_at hl 3 rfl) ?_
        refine lv_ldc2 hx hb hown (hts _ q2095) dX6_fence_137 ?_
        refine lv_lxor hx hb dX6_fence_140 ?_
        refine lv_land hx hb dX6_fence_141 ?_
        refine lv_lconst hx hb dX6_fence_142 jx_kl0 ?_
        refine W.lcmp hx hb dX6_fence_143 ?_
        refine lv_if_eq (tgt := 150) hx hb dX6_fence_144 rfl (fun c8 => ?_) (fun c8 => ?_)
        · rw [if_pos c8] at h
          exact jm_fence_b150_ok hX F hr97 _ _ _ _ _ _ _ h _ _ _ hP hD hS hl
        · rw [if_neg c8] at h
          refine lv_iload hx hb dX6_fence_147 (lv_at hl 6 rfl) ?_
          exact jm_iret hx hb hr hlk hK hZ hP hD hS h dX6_fence_149
theorem jm_fence_h97_ok {out : Int32 × jm_S} (hX : jm_Ok p R s m args meth c A D ck ad sa cX6_fence 11 (some .int) 9) (F : Nat) (n : Nat) (a : Int32 × Int32 × Int64 × Int64 × Int64 × Int32 × jm_S) (h : jm_fence_h97 F n a = some out) : jm_J p l e R s m args below meth c A D ck ad 11 (jm_Qi below args s A D ck ad sa out) 97 [(0, .ref (ad 0)), (1, .int a.1), (2, .int a.2.1), (3, .long a.2.2.1), (6, .long a.2.2.2.1), (8, .long a.2.2.2.2.1), (10, .int a.2.2.2.2.2.1)] [] a.2.2.2.2.2.2 :=
  jx_loop_ind (J := fun a => jm_J p l e R s m args below meth c A D ck ad 11 (jm_Qi below args s A D ck ad sa out) 97 [(0, .ref (ad 0)), (1, .int a.1), (2, .int a.2.1), (3, .long a.2.2.1), (6, .long a.2.2.2.1), (8, .long a.2.2.2.2.1), (10, .int a.2.2.2.2.2.1)] [] a.2.2.2.2.2.2) (fun r hr a h => jm_fence_L97_ok hX F hr a.1 a.2.1 a.2.2.1 a.2.2.2.1 a.2.2.2.2.1 a.2.2.2.2.2.1 a.2.2.2.2.2.2 h) n a h
theorem jm_fence_b54_ok {out : Int32 × jm_S} (hX : jm_Ok p R s m args meth c A D ck ad sa cX6_fence 11 (some .int) 9) (F : Nat) (x1 : Int32) (x2 : Int32) (x3 : Int64) (x5 : Int32) (k0 : Int32) (S : jm_S) (h : jm_fence_b54 F x1 x2 x3 x5 k0 S = some out) : jm_J p l e R s m args below meth c A D ck ad 11 (jm_Qi below args s A D ck ad sa out) 54 [(0, .ref (ad 0)), (1, .int x1), (2, .int x2), (3, .long x3), (5, .int x5)] [.int k0, .ref (ad 0)] S := by
  intro H locs ls hP hD hS hl
  have hX0 := hX
  obtain ⟨hx, hb, hml, hown, hts, hlk, hr, hlv, hK, hZ⟩ := hX0
  unfold jm_fence_b54 at h
  refine lv_iconst hx hb dX6_fence_54 jx_ki2 ?_
  obtain ⟨q1, eq1, h⟩ := jx_bi_some h
  refine jm_callI hx hb hml hown hts hlv hK hZ (jm_throwsIf_met eq1) jm_throwsIf_g jm_throwsIf_d (As := [.int k0, .int (nI 2)]) (Nat.le_of_ble_eq_true rfl) (Nat.le_of_ble_eq_true rfl) hP hD hS hl.1 rfl rfl (lv_room (Nat.le_of_ble_eq_true rfl)) dX6_fence_55 (fun H locs hP hD hS => ?_)
  refine lv_if_eq (tgt := 63) hx hb dX6_fence_58 rfl (fun c2 => ?_) (fun c2 => ?_)
  · rw [if_pos c2] at h
    refine lv_aload_n hx hb dX6_fence_63 rfl (lv_at hl 0 rfl) ?_
    obtain ⟨q3, eq3, h⟩ := jx_bi_some h
    refine jm_callV hx hb hml hown hts hlv hK hZ (jm_flows_met eq3) jm_flows_g jm_flows_d (As := []) (Nat.le_of_ble_eq_true rfl) (Nat.le_of_ble_eq_true rfl) hP hD hS hl.1 rfl rfl (lv_room (Nat.le_of_ble_eq_true rfl)) dX6_fence_64 (fun H locs hP hD hS => ?_)
    refine lv_aload_n hx hb dX6_fence_67 rfl (lv_at hl 0 rfl) ?_
    obtain ⟨q4, eq4, h⟩ := jx_bi_some h
    refine jm_callV hx hb hml hown hts hlv hK hZ (jm_gradesNow_met eq4) jm_gradesNow_g jm_gradesNow_d (As := []) (Nat.le_of_ble_eq_true rfl) (Nat.le_of_ble_eq_true rfl) hP hD hS hl.1 rfl rfl (lv_room (Nat.le_of_ble_eq_true rfl)) dX6_fence_68 (fun H locs hP hD hS => ?_)
    refine lv_aload_n hx hb dX6_fence_71 rfl (lv_at hl 0 rfl) ?_
    refine lv_iload hx hb dX6_fence_72 (lv_at hl 4 rfl) ?_
    obtain ⟨q5, eq5, h⟩ := jx_bi_some h
    refine jm_callV hx hb hml hown hts hlv hK hZ (jm_ways_met eq5) jm_ways_g jm_ways_d (As := [.int x5]) (Nat.le_of_ble_eq_true rfl) (Nat.le_of_ble_eq_true rfl) hP hD hS hl.1 rfl rfl (lv_room (Nat.le_of_ble_eq_true rfl)) dX6_fence_74 (fun H locs hP hD hS => ?_)
    refine lv_aload_n hx hb dX6_fence_77 rfl (lv_at hl 0 rfl) ?_
    obtain ⟨q6, eq6, h⟩ := jx_bi_some h
    refine jm_callL hx hb hml hown hts hlv hK hZ (jm_closedSet_met eq6) jm_closedSet_g jm_closedSet_d (As := []) (Nat.le_of_ble_eq_true rfl) (Nat.le_of_ble_eq_true rfl) hP hD hS hl.1 rfl rfl (lv_room (Nat.le_of_ble_eq_true rfl)) dX6_fence_78 (fun H locs hP hD hS => ?_)
    obtain ⟨y7, ey7, h⟩ := jx_nx_some h
    refine jx_topl ey7 ?_
    refine lv_lstore (lv' := [(6, .long y7), (0, .ref (ad 0)), (1, .int x1), (2, .int x2), (3, .long x3), (5, .int x5)]) hx hb dX6_fence_81 hl (Nat.le_of_ble_eq_true rfl) rfl (fun ls hl => ?_)
    refine lv_lconst hx hb dX6_fence_83 jx_kl1 ?_
    refine lv_iload_n hx hb dX6_fence_84 rfl (lv_at hl 3 rfl) ?_
    refine lv_iconst hx hb dX6_fence_85 jx_ki1 ?_
    refine lv_iadd hx hb dX6_fence_86 ?_
    refine lv_lshl hx hb dX6_fence_87 rfl ?_
    refine lv_lconst hx hb dX6_fence_88 jx_kl1 ?_
    refine lv_iload_n hx hb dX6_fence_89 rfl (lv_at hl 2 rfl) ?_
    refine lv_lshl hx hb dX6_fence_90 rfl ?_
    refine lv_lsub hx hb dX6_fence_91 ?_
    obtain ⟨y8, ey8, h⟩ := jx_nx_some h
    refine jx_topl ey8 ?_
    refine lv_lstore (lv' := [(8, .long y8), (6, .long y7), (0, .ref (ad 0)), (1, .int x1), (2, .int x2), (3, .long x3), (5, .int x5)]) hx hb dX6_fence_92 hl (Nat.le_of_ble_eq_true rfl) rfl (fun ls hl => ?_)
    refine lv_iconst hx hb dX6_fence_94 jx_ki0 ?_
    obtain ⟨y9, ey9, h⟩ := jx_nx_some h
    refine jx_topi ey9 ?_
    refine lv_istore (lv' := [(10, .int y9), (8, .long y8), (6, .long y7), (0, .ref (ad 0)), (1, .int x1), (2, .int x2), (3, .long x3), (5, .int x5)]) hx hb dX6_fence_95 hl (Nat.le_of_ble_eq_true rfl) rfl (fun ls hl => ?_)
    exact jm_fence_h97_ok hX F F _ h _ _ _ hP hD hS (lv_sub hl [3, 4, 5, 6, 2, 1, 0] rfl)
  · rw [if_neg c2] at h
    refine lv_iconst hx hb dX6_fence_61 jx_ki0 ?_
    exact jm_iret hx hb hr hlk hK hZ hP hD hS h dX6_fence_62
theorem jm_fence_b36_ok {out : Int32 × jm_S} (hX : jm_Ok p R s m args meth c A D ck ad sa cX6_fence 11 (some .int) 9) (F : Nat) (x1 : Int32) (x2 : Int32) (x3 : Int64) (x5 : Int32) (k0 : Int32) (S : jm_S) (h : jm_fence_b36 F x1 x2 x3 x5 k0 S = some out) : jm_J p l e R s m args below meth c A D ck ad 11 (jm_Qi below args s A D ck ad sa out) 36 [(0, .ref (ad 0)), (1, .int x1), (2, .int x2), (3, .long x3), (5, .int x5)] [.int k0, .ref (ad 0)] S := by
  intro H locs ls hP hD hS hl
  have hX0 := hX
  obtain ⟨hx, hb, hml, hown, hts, hlk, hr, hlv, hK, hZ⟩ := hX0
  unfold jm_fence_b36 at h
  refine lv_iconst hx hb dX6_fence_36 jx_ki1 ?_
  obtain ⟨q1, eq1, h⟩ := jx_bi_some h
  refine jm_callI hx hb hml hown hts hlv hK hZ (jm_throwsIf_met eq1) jm_throwsIf_g jm_throwsIf_d (As := [.int k0, .int (nI 1)]) (Nat.le_of_ble_eq_true rfl) (Nat.le_of_ble_eq_true rfl) hP hD hS hl.1 rfl rfl (lv_room (Nat.le_of_ble_eq_true rfl)) dX6_fence_37 (fun H locs hP hD hS => ?_)
  refine lv_if_ne (tgt := 61) hx hb dX6_fence_40 rfl (fun c2 => ?_) (fun c2 => ?_)
  · rw [if_neg c2] at h
    refine lv_iconst hx hb dX6_fence_61 jx_ki0 ?_
    exact jm_iret hx hb hr hlk hK hZ hP hD hS h dX6_fence_62
  · rw [if_pos c2] at h
    refine lv_aload_n hx hb dX6_fence_43 rfl (lv_at hl 0 rfl) ?_
    refine lv_iload_n hx hb dX6_fence_44 rfl (lv_at hl 1 rfl) ?_
    refine lv_iload_n hx hb dX6_fence_45 rfl (lv_at hl 2 rfl) ?_
    refine lv_icmp_le (tgt := 53) hx hb dX6_fence_46 rfl (fun c3 => ?_) (fun c3 => ?_)
    · rw [if_pos c3] at h
      refine lv_iconst hx hb dX6_fence_53 jx_ki0 ?_
      exact jm_fence_b54_ok hX F _ _ _ _ _ _ h _ _ _ hP hD hS hl
    · rw [if_neg c3] at h
      refine lv_iconst hx hb dX6_fence_49 jx_ki1 ?_
      refine lv_goto (tgt := 54) hx hb dX6_fence_50 rfl ?_
      exact jm_fence_b54_ok hX F _ _ _ _ _ _ h _ _ _ hP hD hS hl
theorem jm_fence_b31_ok {out : Int32 × jm_S} (hX : jm_Ok p R s m args meth c A D ck ad sa cX6_fence 11 (some .int) 9) (F : Nat) (x1 : Int32) (x2 : Int32) (x3 : Int64) (x5 : Int32) (S : jm_S) (h : jm_fence_b31 F x1 x2 x3 x5 S = some out) : jm_J p l e R s m args below meth c A D ck ad 11 (jm_Qi below args s A D ck ad sa out) 31 [(0, .ref (ad 0)), (1, .int x1), (2, .int x2), (3, .long x3), (5, .int x5)] [.ref (ad 0)] S := by
  intro H locs ls hP hD hS hl
  have hX0 := hX
  obtain ⟨hx, hb, hml, hown, hts, hlk, hr, hlv, hK, hZ⟩ := hX0
  unfold jm_fence_b31 at h
  refine lv_iconst hx hb dX6_fence_31 jx_ki1 ?_
  refine lv_goto (tgt := 36) hx hb dX6_fence_32 rfl ?_
  exact jm_fence_b36_ok hX F _ _ _ _ _ _ h _ _ _ hP hD hS hl
theorem jm_fence_ok {out : Int32 × jm_S} (hX : jm_Ok p R s m args meth c A D ck ad sa cX6_fence 11 (some .int) 9) (F : Nat) (x1 : Int32) (x2 : Int32) (x3 : Int64) (x5 : Int32) (S : jm_S) (h : jm_fence F x1 x2 x3 x5 S = some out) : jm_J p l e R s m args below meth c A D ck ad 11 (jm_Qi below args s A D ck ad sa out) 0 [(0, .ref (ad 0)), (1, .int x1), (2, .int x2), (3, .long x3), (5, .int x5)] [] S := by
  intro H locs ls hP hD hS hl
  have hX0 := hX
  obtain ⟨hx, hb, hml, hown, hts, hlk, hr, hlv, hK, hZ⟩ := hX0
  unfold jm_fence at h
  refine lv_aload_n hx hb dX6_fence_0 rfl (lv_at hl 0 rfl) ?_
  refine lv_iconst hx hb dX6_fence_1 jx_ki0 ?_
  obtain ⟨S1, eS1, h⟩ := jx_nx_some h
  refine jm_put hx hb hts hown hK hP hD hS eS1 jm_f0 (by decide) jm_n0 jm_d0 jm_p0 dX6_fence_2 (fun H locs hP hD hS => ?_)
  refine lv_aload_n hx hb dX6_fence_5 rfl (lv_at hl 0 rfl) ?_
  refine lv_aload_n hx hb dX6_fence_6 rfl (lv_at hl 0 rfl) ?_
  refine lv_iload_n hx hb dX6_fence_7 rfl (lv_at hl 1 rfl) ?_
  obtain ⟨q2, eq2, h⟩ := jx_bi_some h
  refine jm_callI hx hb hml hown hts hlv hK hZ (jm_noOrder_met eq2) jm_noOrder_g jm_noOrder_d (As := [.int x1]) (Nat.le_of_ble_eq_true rfl) (Nat.le_of_ble_eq_true rfl) hP hD hS hl.1 rfl rfl (lv_room (Nat.le_of_ble_eq_true rfl)) dX6_fence_8 (fun H locs hP hD hS => ?_)
  refine lv_if_ne (tgt := 31) hx hb dX6_fence_11 rfl (fun c3 => ?_) (fun c3 => ?_)
  · rw [if_neg c3] at h
    exact jm_fence_b31_ok hX F _ _ _ _ _ h _ _ _ hP hD hS hl
  · rw [if_pos c3] at h
    refine lv_aload_n hx hb dX6_fence_14 rfl (lv_at hl 0 rfl) ?_
    refine lv_iload_n hx hb dX6_fence_15 rfl (lv_at hl 2 rfl) ?_
    obtain ⟨q4, eq4, h⟩ := jx_bi_some h
    refine jm_callI hx hb hml hown hts hlv hK hZ (jm_noOrder_met eq4) jm_noOrder_g jm_noOrder_d (As := [.int x2]) (Nat.le_of_ble_eq_true rfl) (Nat.le_of_ble_eq_true rfl) hP hD hS hl.1 rfl rfl (lv_room (Nat.le_of_ble_eq_true rfl)) dX6_fence_16 (fun H locs hP hD hS => ?_)
    refine lv_if_ne (tgt := 31) hx hb dX6_fence_19 rfl (fun c5 => ?_) (fun c5 => ?_)
    · rw [if_neg c5] at h
      exact jm_fence_b31_ok hX F _ _ _ _ _ h _ _ _ hP hD hS hl
    · rw [if_pos c5] at h
      refine lv_aload_n hx hb dX6_fence_22 rfl (lv_at hl 0 rfl) ?_
      refine lv_iload hx hb dX6_fence_23 (lv_at hl 4 rfl) ?_
      obtain ⟨q6, eq6, h⟩ := jx_bi_some h
      refine jm_callI hx hb hml hown hts hlv hK hZ (jm_noPower_met eq6) jm_noPower_g jm_noPower_d (As := [.int x5]) (Nat.le_of_ble_eq_true rfl) (Nat.le_of_ble_eq_true rfl) hP hD hS hl.1 rfl rfl (lv_room (Nat.le_of_ble_eq_true rfl)) dX6_fence_25 (fun H locs hP hD hS => ?_)
      refine lv_if_eq (tgt := 35) hx hb dX6_fence_28 rfl (fun c7 => ?_) (fun c7 => ?_)
      · rw [if_pos c7] at h
        refine lv_iconst hx hb dX6_fence_35 jx_ki0 ?_
        exact jm_fence_b36_ok hX F _ _ _ _ _ _ h _ _ _ hP hD hS hl
      · rw [if_neg c7] at h
        exact jm_fence_b31_ok hX F _ _ _ _ _ h _ _ _ hP hD hS hl
theorem jm_fence_met {l : Launch} {D : va_G} {ck : Nat → ClassId} {ad sa : Nat → Nat} {A : Nat → Prop} {F : Nat} {x1 : Int32} {x2 : Int32} {x3 : Int64} {x5 : Int32} {S : jm_S} {out : Int32 × jm_S} (h : jm_fence F x1 x2 x3 x5 S = some out) : jm_Mi l D ck ad sa A yX6_fence cX6_fence 11 (some .int) 9 [.int x1, .int x2, .long x3, .int x5] S out :=
  jm_Mi_of ⟨by decide, rfl, Nat.le_of_ble_eq_true rfl⟩ (fun hX => jm_fence_ok hX F x1 x2 x3 x5 S h)
theorem jm_late_d : yX6_late.cls = RX6 ∧ yX6_late.cls ≠ "java/lang/invoke/MethodHandle" ∧ yX6_late.cls ≠ "java/lang/invoke/VarHandle" ∧ (parseMethodDescriptor yX6_late.desc).map (fun d => d.parameters.length) = some 1 := by decide +kernel
theorem jm_late_b21_ok {out : Int32 × jm_S} (hX : jm_Ok p R s m args meth c A D ck ad sa cX6_late 3 (some .int) 10) (F : Nat) (x1 : Int32) (k0 : Int32) (S : jm_S) (h : jm_late_b21 F x1 k0 S = some out) : jm_J p l e R s m args below meth c A D ck ad 3 (jm_Qi below args s A D ck ad sa out) 21 [(0, .ref (ad 0)), (1, .int x1)] [.int k0, .ref (ad 0)] S := by
  intro H locs ls hP hD hS hl
  have hX0 := hX
  obtain ⟨hx, hb, hml, hown, hts, hlk, hr, hlv, hK, hZ⟩ := hX0
  unfold jm_late_b21 at h
  refine lv_iconst hx hb dX6_late_21 jx_ki1 ?_
  obtain ⟨q1, eq1, h⟩ := jx_bi_some h
  refine jm_callI hx hb hml hown hts hlv hK hZ (jm_throwsIf_met eq1) jm_throwsIf_g jm_throwsIf_d (As := [.int k0, .int (nI 1)]) (Nat.le_of_ble_eq_true rfl) (Nat.le_of_ble_eq_true rfl) hP hD hS hl.1 rfl rfl (lv_room (Nat.le_of_ble_eq_true rfl)) dX6_late_22 (fun H locs hP hD hS => ?_)
  refine lv_if_eq (tgt := 30) hx hb dX6_late_25 rfl (fun c2 => ?_) (fun c2 => ?_)
  · rw [if_pos c2] at h
    refine lv_aload_n hx hb dX6_late_30 rfl (lv_at hl 0 rfl) ?_
    refine lv_iconst hx hb dX6_late_31 jx_ki1 ?_
    refine lv_iconst hx hb dX6_late_32 jx_ki0 ?_
    obtain ⟨q3, eq3, h⟩ := jx_bi_some h
    refine jm_callV hx hb hml hown hts hlv hK hZ (jm_runs_met eq3) jm_runs_g jm_runs_d (As := [.int (nI 1), .int (nI 0)]) (Nat.le_of_ble_eq_true rfl) (Nat.le_of_ble_eq_true rfl) hP hD hS hl.1 rfl rfl (lv_room (Nat.le_of_ble_eq_true rfl)) dX6_late_33 (fun H locs hP hD hS => ?_)
    refine lv_aload_n hx hb dX6_late_36 rfl (lv_at hl 0 rfl) ?_
    refine jm_get hx hb hts hown hK hP jm_f32 (by decide) jm_g32 dX6_late_37 ?_
    refine lv_if_ne (tgt := 45) hx hb dX6_late_40 rfl (fun c4 => ?_) (fun c4 => ?_)
    · rw [if_neg c4] at h
      refine lv_aload_n hx hb dX6_late_45 rfl (lv_at hl 0 rfl) ?_
      refine jm_get hx hb hts hown hK hP jm_f32 (by decide) jm_g32 dX6_late_46 ?_
      refine lv_iload_n hx hb dX6_late_49 rfl (lv_at hl 1 rfl) ?_
      refine lv_iadd hx hb dX6_late_50 ?_
      refine lv_iconst hx hb dX6_late_51 jx_ki1 ?_
      refine lv_isub hx hb dX6_late_52 ?_
      refine lv_iload_n hx hb dX6_late_53 rfl (lv_at hl 1 rfl) ?_
      obtain ⟨g5, h⟩ := jx_gn_some h
      refine lv_idiv hx hb dX6_late_54 g5 ?_
      refine lv_iload_n hx hb dX6_late_55 rfl (lv_at hl 1 rfl) ?_
      refine lv_imul hx hb dX6_late_56 ?_
      obtain ⟨y6, ey6, h⟩ := jx_nx_some h
      refine jx_topi ey6 ?_
      refine lv_istore_n (lv' := [(2, .int y6), (0, .ref (ad 0)), (1, .int x1)]) hx hb dX6_late_57 rfl hl (Nat.le_of_ble_eq_true rfl) rfl (fun ls hl => ?_)
      refine lv_iload_n hx hb dX6_late_58 rfl (lv_at hl 0 rfl) ?_
      refine lv_aload_n hx hb dX6_late_59 rfl (lv_at hl 1 rfl) ?_
      refine jm_get hx hb hts hown hK hP jm_f29 (by decide) jm_g29 dX6_late_60 ?_
      refine va_mmin hx hb (hml.trans hl.1.symm) hown (hts _ q2081) (hts _ jx_mmin_s) (hts _ jx_mmin_i) (hts _ jx_mmin_c) (by rw [hlv]; decide) (by rw [hlv]; exact Nat.le_of_ble_eq_true rfl) (Nat.zero_le _) (Nat.zero_le _) dX6_late_63 ?_
      refine lv_aload_n hx hb dX6_late_66 rfl (lv_at hl 1 rfl) ?_
      refine jm_get hx hb hts hown hK hP jm_f32 (by decide) jm_g32 dX6_late_67 ?_
      refine lv_isub hx hb dX6_late_70 ?_
      exact jm_iret hx hb hr hlk hK hZ hP hD hS h dX6_late_71
    · rw [if_pos c4] at h
      refine lv_iconst hx hb dX6_late_43 jx_kim1 ?_
      exact jm_iret hx hb hr hlk hK hZ hP hD hS h dX6_late_44
  · rw [if_neg c2] at h
    refine lv_iconst hx hb dX6_late_28 jx_ki0 ?_
    exact jm_iret hx hb hr hlk hK hZ hP hD hS h dX6_late_29
theorem jm_late_ok {out : Int32 × jm_S} (hX : jm_Ok p R s m args meth c A D ck ad sa cX6_late 3 (some .int) 10) (F : Nat) (x1 : Int32) (S : jm_S) (h : jm_late F x1 S = some out) : jm_J p l e R s m args below meth c A D ck ad 3 (jm_Qi below args s A D ck ad sa out) 0 [(0, .ref (ad 0)), (1, .int x1)] [] S := by
  intro H locs ls hP hD hS hl
  have hX0 := hX
  obtain ⟨hx, hb, hml, hown, hts, hlk, hr, hlv, hK, hZ⟩ := hX0
  unfold jm_late at h
  refine lv_aload_n hx hb dX6_late_0 rfl (lv_at hl 0 rfl) ?_
  refine lv_iconst hx hb dX6_late_1 jx_ki0 ?_
  obtain ⟨S1, eS1, h⟩ := jx_nx_some h
  refine jm_put hx hb hts hown hK hP hD hS eS1 jm_f0 (by decide) jm_n0 jm_d0 jm_p0 dX6_late_2 (fun H locs hP hD hS => ?_)
  refine lv_aload_n hx hb dX6_late_5 rfl (lv_at hl 0 rfl) ?_
  refine lv_iload_n hx hb dX6_late_6 rfl (lv_at hl 1 rfl) ?_
  refine lv_iconst hx hb dX6_late_7 jx_ki1 ?_
  refine lv_bipush hx hb dX6_late_8 jx_kb20 ?_
  obtain ⟨q2, eq2, h⟩ := jx_bi_some h
  refine jx_callSi hx hb hml hown hts (jm_in_met eq2) jm_in_g_X6 jm_in_d (As := [.int x1, .int (nI 1), .int (nI 20)]) (by rw [hlv]; decide) hl.1 rfl rfl (lv_room (Nat.le_of_ble_eq_true rfl)) dX6_late_10 (by rw [hlv]; exact ⟨Nat.zero_le _, Nat.zero_le _⟩) ?_
  refine lv_if_ne (tgt := 20) hx hb dX6_late_13 rfl (fun c3 => ?_) (fun c3 => ?_)
  · rw [if_neg c3] at h
    refine lv_iconst hx hb dX6_late_20 jx_ki0 ?_
    exact jm_late_b21_ok hX F _ _ _ h _ _ _ hP hD hS hl
  · rw [if_pos c3] at h
    refine lv_iconst hx hb dX6_late_16 jx_ki1 ?_
    refine lv_goto (tgt := 21) hx hb dX6_late_17 rfl ?_
    exact jm_late_b21_ok hX F _ _ _ h _ _ _ hP hD hS hl
theorem jm_late_met {l : Launch} {D : va_G} {ck : Nat → ClassId} {ad sa : Nat → Nat} {A : Nat → Prop} {F : Nat} {x1 : Int32} {S : jm_S} {out : Int32 × jm_S} (h : jm_late F x1 S = some out) : jm_Mi l D ck ad sa A yX6_late cX6_late 3 (some .int) 10 [.int x1] S out :=
  jm_Mi_of ⟨by decide, rfl, Nat.le_of_ble_eq_true rfl⟩ (fun hX => jm_late_ok hX F x1 S h)
theorem jm_judge_d : yX6_judge.cls = RX6 ∧ yX6_judge.cls ≠ "java/lang/invoke/MethodHandle" ∧ yX6_judge.cls ≠ "java/lang/invoke/VarHandle" ∧ (parseMethodDescriptor yX6_judge.desc).map (fun d => d.parameters.length) = some 0 := by decide +kernel
theorem jm_judge_L12_ok {out : Int32 × jm_S} (hX : jm_Ok p R s m args meth c A D ck ad sa cX6_judge 2 (some .int) 10) (F : Nat) {r12 : Int32 × jm_S → Option (Int32 × jm_S)} (hr12 : ∀ a, r12 a = some out → jm_J p l e R s m args below meth c A D ck ad 2 (jm_Qi below args s A D ck ad sa out) 12 [(0, .ref (ad 0)), (1, .int a.1)] [] a.2) (x1 : Int32) (S : jm_S) (h : jm_judge_L12 F r12 x1 S = some out) : jm_J p l e R s m args below meth c A D ck ad 2 (jm_Qi below args s A D ck ad sa out) 12 [(0, .ref (ad 0)), (1, .int x1)] [] S := by
  intro H locs ls hP hD hS hl
  have hX0 := hX
  obtain ⟨hx, hb, hml, hown, hts, hlk, hr, hlv, hK, hZ⟩ := hX0
  unfold jm_judge_L12 at h
  refine lv_iload_n hx hb dX6_judge_12 rfl (lv_at hl 1 rfl) ?_
  refine lv_aload_n hx hb dX6_judge_13 rfl (lv_at hl 0 rfl) ?_
  refine jm_get hx hb hts hown hK hP jm_f7 (by decide) jm_g7 dX6_judge_14 ?_
  refine lv_icmp_ge (tgt := 55) hx hb dX6_judge_17 rfl (fun c1 => ?_) (fun c1 => ?_)
  · rw [if_pos c1] at h
    refine lv_iconst hx hb dX6_judge_55 jx_kim1 ?_
    exact jm_iret hx hb hr hlk hK hZ hP hD hS h dX6_judge_56
  · rw [if_neg c1] at h
    refine lv_iload_n hx hb dX6_judge_20 rfl (lv_at hl 1 rfl) ?_
    refine lv_aload_n hx hb dX6_judge_21 rfl (lv_at hl 0 rfl) ?_
    refine jm_get hx hb hts hown hK hP jm_f24 (by decide) jm_g24 dX6_judge_22 ?_
    refine lv_icmp_ge (tgt := 47) hx hb dX6_judge_25 rfl (fun c2 => ?_) (fun c2 => ?_)
    · rw [if_pos c2] at h
      refine lv_iload_n hx hb dX6_judge_47 rfl (lv_at hl 1 rfl) ?_
      exact jm_iret hx hb hr hlk hK hZ hP hD hS h dX6_judge_48
    · rw [if_neg c2] at h
      refine lv_aload_n hx hb dX6_judge_28 rfl (lv_at hl 0 rfl) ?_
      refine jm_get hx hb hts hown hK hP jm_f4 (by decide) jm_g4 dX6_judge_29 ?_
      refine lv_iload_n hx hb dX6_judge_32 rfl (lv_at hl 1 rfl) ?_
      obtain ⟨j3, ej3, bj3, h⟩ := jx_ga_some h
      refine jm_bald hx hb hK hP jm_a4 ej3 bj3 dX6_judge_33 ?_
      refine lv_sipush hx hb dX6_judge_34 jx_ks255 ?_
      refine lv_iand hx hb dX6_judge_37 ?_
      refine lv_aload_n hx hb dX6_judge_38 rfl (lv_at hl 0 rfl) ?_
      refine jm_get hx hb hts hown hK hP jm_f22 (by decide) jm_g22 dX6_judge_39 ?_
      refine lv_iload_n hx hb dX6_judge_42 rfl (lv_at hl 1 rfl) ?_
      obtain ⟨j4, ej4, bj4, h⟩ := jx_ga_some h
      refine jm_iald hx hb hK hP jm_a22 ej4 bj4 dX6_judge_43 ?_
      refine lv_icmp_eq (tgt := 49) hx hb dX6_judge_44 rfl (fun c5 => ?_) (fun c5 => ?_)
      · rw [if_pos c5] at h
        obtain ⟨y6, ey6, h⟩ := jx_nx_some h
        refine lv_iinc (v := y6) (lv' := [(1, .int y6), (0, .ref (ad 0))]) hx hb dX6_judge_49 hl (k := 1) rfl (jx_inc jx_ki1 ey6) (Nat.le_of_ble_eq_true rfl) rfl (fun ls hl => ?_)
        refine lv_goto (tgt := 12) hx hb dX6_judge_52 rfl ?_
        exact hr12 _ h _ _ _ hP hD hS (lv_sub hl [1, 0] rfl)
      · rw [if_neg c5] at h
        refine lv_iload_n hx hb dX6_judge_47 rfl (lv_at hl 1 rfl) ?_
        exact jm_iret hx hb hr hlk hK hZ hP hD hS h dX6_judge_48
theorem jm_judge_h12_ok {out : Int32 × jm_S} (hX : jm_Ok p R s m args meth c A D ck ad sa cX6_judge 2 (some .int) 10) (F : Nat) (n : Nat) (a : Int32 × jm_S) (h : jm_judge_h12 F n a = some out) : jm_J p l e R s m args below meth c A D ck ad 2 (jm_Qi below args s A D ck ad sa out) 12 [(0, .ref (ad 0)), (1, .int a.1)] [] a.2 :=
  jx_loop_ind (J := fun a => jm_J p l e R s m args below meth c A D ck ad 2 (jm_Qi below args s A D ck ad sa out) 12 [(0, .ref (ad 0)), (1, .int a.1)] [] a.2) (fun r hr a h => jm_judge_L12_ok hX F hr a.1 a.2 h) n a h
theorem jm_judge_ok {out : Int32 × jm_S} (hX : jm_Ok p R s m args meth c A D ck ad sa cX6_judge 2 (some .int) 10) (F : Nat)  (S : jm_S) (h : jm_judge F  S = some out) : jm_J p l e R s m args below meth c A D ck ad 2 (jm_Qi below args s A D ck ad sa out) 0 [(0, .ref (ad 0))] [] S := by
  intro H locs ls hP hD hS hl
  have hX0 := hX
  obtain ⟨hx, hb, hml, hown, hts, hlk, hr, hlv, hK, hZ⟩ := hX0
  unfold jm_judge at h
  refine lv_aload_n hx hb dX6_judge_0 rfl (lv_at hl 0 rfl) ?_
  obtain ⟨q1, eq1, h⟩ := jx_bi_some h
  refine jm_callV hx hb hml hown hts hlv hK hZ (jm_uses_met eq1) jm_uses_g jm_uses_d (As := []) (Nat.le_of_ble_eq_true rfl) (Nat.le_of_ble_eq_true rfl) hP hD hS hl.1 rfl rfl (lv_room (Nat.le_of_ble_eq_true rfl)) dX6_judge_1 (fun H locs hP hD hS => ?_)
  refine lv_aload_n hx hb dX6_judge_4 rfl (lv_at hl 0 rfl) ?_
  refine lv_iconst hx hb dX6_judge_5 jx_ki1 ?_
  refine lv_iconst hx hb dX6_judge_6 jx_ki1 ?_
  obtain ⟨q2, eq2, h⟩ := jx_bi_some h
  refine jm_callV hx hb hml hown hts hlv hK hZ (jm_runs_met eq2) jm_runs_g jm_runs_d (As := [.int (nI 1), .int (nI 1)]) (Nat.le_of_ble_eq_true rfl) (Nat.le_of_ble_eq_true rfl) hP hD hS hl.1 rfl rfl (lv_room (Nat.le_of_ble_eq_true rfl)) dX6_judge_7 (fun H locs hP hD hS => ?_)
  refine lv_iconst hx hb dX6_judge_10 jx_ki0 ?_
  obtain ⟨y3, ey3, h⟩ := jx_nx_some h
  refine jx_topi ey3 ?_
  refine lv_istore_n (lv' := [(1, .int y3), (0, .ref (ad 0))]) hx hb dX6_judge_11 rfl hl (Nat.le_of_ble_eq_true rfl) rfl (fun ls hl => ?_)
  exact jm_judge_h12_ok hX F F _ h _ _ _ hP hD hS (lv_sub hl [1, 0] rfl)
theorem jm_judge_met {l : Launch} {D : va_G} {ck : Nat → ClassId} {ad sa : Nat → Nat} {A : Nat → Prop} {F : Nat}  {S : jm_S} {out : Int32 × jm_S} (h : jm_judge F  S = some out) : jm_Mi l D ck ad sa A yX6_judge cX6_judge 2 (some .int) 10 [] S out :=
  jm_Mi_of ⟨by decide, rfl, Nat.le_of_ble_eq_true rfl⟩ (fun hX => jm_judge_ok hX F  S h)
theorem jm_reaches_d : yX6_reaches.cls = RX6 ∧ yX6_reaches.cls ≠ "java/lang/invoke/MethodHandle" ∧ yX6_reaches.cls ≠ "java/lang/invoke/VarHandle" ∧ (parseMethodDescriptor yX6_reaches.desc).map (fun d => d.parameters.length) = some 1 := by decide +kernel
theorem jm_reaches_g : GoodIn lw_all (wsV RX6 446 RX6 yX6_reaches (ws_ yX6_reaches cX6_reaches 5 (some .int))) := lw_V q2108 q2110 qs100 q110 q2111
theorem jm_reaches_b45_ok {out : Int32 × jm_S} (hX : jm_Ok p R s m args meth c A D ck ad sa cX6_reaches 5 (some .int) 11) (F : Nat) {r4 : Int32 × Int32 × Int32 × jm_S → Option (Int32 × jm_S)} (hr4 : ∀ a, r4 a = some out → jm_J p l e R s m args below meth c A D ck ad 5 (jm_Qi below args s A D ck ad sa out) 4 [(0, .ref (ad 0)), (1, .int a.1), (2, .int a.2.1), (3, .int a.2.2.1)] [] a.2.2.2) {r17 : Int32 × Int32 × Int32 × Int32 × jm_S → Option (Int32 × jm_S)} (hr17 : ∀ a, r17 a = some out → jm_J p l e R s m args below meth c A D ck ad 5 (jm_Qi below args s A D ck ad sa out) 17 [(0, .ref (ad 0)), (1, .int a.1), (2, .int a.2.1), (3, .int a.2.2.1), (4, .int a.2.2.2.1)] [] a.2.2.2.2) (x1 : Int32) (x3 : Int32) (x4 : Int32) (k0 : Int32) (k1 : Int32) (S : jm_S) (h : jm_reaches_b45 F r4 r17 x1 x3 x4 k0 k1 S = some out) : jm_J p l e R s m args below meth c A D ck ad 5 (jm_Qi below args s A D ck ad sa out) 45 [(0, .ref (ad 0)), (1, .int x1), (3, .int x3), (4, .int x4)] [.int k0, .int k1] S := by
  intro H locs ls hP hD hS hl
  have hX0 := hX
  obtain ⟨hx, hb, hml, hown, hts, hlk, hr, hlv, hK, hZ⟩ := hX0
  unfold jm_reaches_b45 at h
  refine lv_iadd hx hb dX6_reaches_45 ?_
  obtain ⟨y1, ey1, h⟩ := jx_nx_some h
  refine jx_topi ey1 ?_
  refine lv_istore_n (lv' := [(2, .int y1), (0, .ref (ad 0)), (1, .int x1), (3, .int x3), (4, .int x4)]) hx hb dX6_reaches_46 rfl hl (Nat.le_of_ble_eq_true rfl) rfl (fun ls hl => ?_)
  obtain ⟨y2, ey2, h⟩ := jx_nx_some h
  refine lv_iinc (v := y2) (lv' := [(4, .int y2), (2, .int y1), (0, .ref (ad 0)), (1, .int x1), (3, .int x3)]) hx hb dX6_reaches_47 hl (k := 4) rfl (jx_inc jx_ki1 ey2) (Nat.le_of_ble_eq_true rfl) rfl (fun ls hl => ?_)
  refine lv_goto (tgt := 17) hx hb dX6_reaches_50 rfl ?_
  exact hr17 _ h _ _ _ hP hD hS (lv_sub hl [2, 3, 1, 4, 0] rfl)
theorem jm_reaches_L17_ok {out : Int32 × jm_S} (hX : jm_Ok p R s m args meth c A D ck ad sa cX6_reaches 5 (some .int) 11) (F : Nat) {r4 : Int32 × Int32 × Int32 × jm_S → Option (Int32 × jm_S)} (hr4 : ∀ a, r4 a = some out → jm_J p l e R s m args below meth c A D ck ad 5 (jm_Qi below args s A D ck ad sa out) 4 [(0, .ref (ad 0)), (1, .int a.1), (2, .int a.2.1), (3, .int a.2.2.1)] [] a.2.2.2) {r17 : Int32 × Int32 × Int32 × Int32 × jm_S → Option (Int32 × jm_S)} (hr17 : ∀ a, r17 a = some out → jm_J p l e R s m args below meth c A D ck ad 5 (jm_Qi below args s A D ck ad sa out) 17 [(0, .ref (ad 0)), (1, .int a.1), (2, .int a.2.1), (3, .int a.2.2.1), (4, .int a.2.2.2.1)] [] a.2.2.2.2) (x1 : Int32) (x2 : Int32) (x3 : Int32) (x4 : Int32) (S : jm_S) (h : jm_reaches_L17 F r4 r17 x1 x2 x3 x4 S = some out) : jm_J p l e R s m args below meth c A D ck ad 5 (jm_Qi below args s A D ck ad sa out) 17 [(0, .ref (ad 0)), (1, .int x1), (2, .int x2), (3, .int x3), (4, .int x4)] [] S := by
  intro H locs ls hP hD hS hl
  have hX0 := hX
  obtain ⟨hx, hb, hml, hown, hts, hlk, hr, hlv, hK, hZ⟩ := hX0
  unfold jm_reaches_L17 at h
  refine lv_iload hx hb dX6_reaches_17 (lv_at hl 4 rfl) ?_
  refine lv_aload_n hx hb dX6_reaches_19 rfl (lv_at hl 0 rfl) ?_
  refine jm_get hx hb hts hown hK hP jm_f1 (by decide) jm_g1 dX6_reaches_20 ?_
  refine lv_iconst hx hb dX6_reaches_23 jx_ki3 ?_
  obtain ⟨j1, ej1, bj1, h⟩ := jx_ga_some h
  refine jm_iald hx hb hK hP jm_a1 ej1 bj1 dX6_reaches_24 ?_
  refine lv_icmp_ge (tgt := 53) hx hb dX6_reaches_25 rfl (fun c2 => ?_) (fun c2 => ?_)
  · rw [if_pos c2] at h
    obtain ⟨y3, ey3, h⟩ := jx_nx_some h
    refine lv_iinc (v := y3) (lv' := [(3, .int y3), (0, .ref (ad 0)), (1, .int x1), (2, .int x2), (4, .int x4)]) hx hb dX6_reaches_53 hl (k := 3) rfl (jx_inc jx_ki1 ey3) (Nat.le_of_ble_eq_true rfl) rfl (fun ls hl => ?_)
    refine lv_goto (tgt := 4) hx hb dX6_reaches_56 rfl ?_
    exact hr4 _ h _ _ _ hP hD hS (lv_sub hl [1, 2, 3, 0] rfl)
  · rw [if_neg c2] at h
    refine lv_iload_n hx hb dX6_reaches_28 rfl (lv_at hl 2 rfl) ?_
    refine lv_aload_n hx hb dX6_reaches_29 rfl (lv_at hl 0 rfl) ?_
    refine lv_iload_n hx hb dX6_reaches_30 rfl (lv_at hl 3 rfl) ?_
    refine lv_iload hx hb dX6_reaches_31 (lv_at hl 4 rfl) ?_
    obtain ⟨q4, eq4, h⟩ := jx_bi_some h
    refine jm_callI hx hb hml hown hts hlv hK hZ (jm_reachOf_met eq4) jm_reachOf_g jm_reachOf_d (As := [.int x3, .int x4]) (Nat.le_of_ble_eq_true rfl) (Nat.le_of_ble_eq_true rfl) hP hD hS hl.1 rfl rfl (lv_room (Nat.le_of_ble_eq_true rfl)) dX6_reaches_33 (fun H locs hP hD hS => ?_)
    refine lv_iload_n hx hb dX6_reaches_36 rfl (lv_at hl 1 rfl) ?_
    refine lv_icmp_ne (tgt := 44) hx hb dX6_reaches_37 rfl (fun c5 => ?_) (fun c5 => ?_)
    · rw [if_neg c5] at h
      refine lv_iconst hx hb dX6_reaches_44 jx_ki0 ?_
      exact jm_reaches_b45_ok hX F hr4 hr17 _ _ _ _ _ _ h _ _ _ hP hD hS (lv_sub hl [0, 1, 3, 4] rfl)
    · rw [if_pos c5] at h
      refine lv_iconst hx hb dX6_reaches_40 jx_ki1 ?_
      refine lv_goto (tgt := 45) hx hb dX6_reaches_41 rfl ?_
      exact jm_reaches_b45_ok hX F hr4 hr17 _ _ _ _ _ _ h _ _ _ hP hD hS (lv_sub hl [0, 1, 3, 4] rfl)
theorem jm_reaches_h17_ok {out : Int32 × jm_S} (hX : jm_Ok p R s m args meth c A D ck ad sa cX6_reaches 5 (some .int) 11) (F : Nat) {r4 : Int32 × Int32 × Int32 × jm_S → Option (Int32 × jm_S)} (hr4 : ∀ a, r4 a = some out → jm_J p l e R s m args below meth c A D ck ad 5 (jm_Qi below args s A D ck ad sa out) 4 [(0, .ref (ad 0)), (1, .int a.1), (2, .int a.2.1), (3, .int a.2.2.1)] [] a.2.2.2) (n : Nat) (a : Int32 × Int32 × Int32 × Int32 × jm_S) (h : jm_reaches_h17 F r4 n a = some out) : jm_J p l e R s m args below meth c A D ck ad 5 (jm_Qi below args s A D ck ad sa out) 17 [(0, .ref (ad 0)), (1, .int a.1), (2, .int a.2.1), (3, .int a.2.2.1), (4, .int a.2.2.2.1)] [] a.2.2.2.2 :=
  jx_loop_ind (J := fun a => jm_J p l e R s m args below meth c A D ck ad 5 (jm_Qi below args s A D ck ad sa out) 17 [(0, .ref (ad 0)), (1, .int a.1), (2, .int a.2.1), (3, .int a.2.2.1), (4, .int a.2.2.2.1)] [] a.2.2.2.2) (fun r hr a h => jm_reaches_L17_ok hX F hr4 hr a.1 a.2.1 a.2.2.1 a.2.2.2.1 a.2.2.2.2 h) n a h
theorem jm_reaches_L4_ok {out : Int32 × jm_S} (hX : jm_Ok p R s m args meth c A D ck ad sa cX6_reaches 5 (some .int) 11) (F : Nat) {r4 : Int32 × Int32 × Int32 × jm_S → Option (Int32 × jm_S)} (hr4 : ∀ a, r4 a = some out → jm_J p l e R s m args below meth c A D ck ad 5 (jm_Qi below args s A D ck ad sa out) 4 [(0, .ref (ad 0)), (1, .int a.1), (2, .int a.2.1), (3, .int a.2.2.1)] [] a.2.2.2) (x1 : Int32) (x2 : Int32) (x3 : Int32) (S : jm_S) (h : jm_reaches_L4 F r4 x1 x2 x3 S = some out) : jm_J p l e R s m args below meth c A D ck ad 5 (jm_Qi below args s A D ck ad sa out) 4 [(0, .ref (ad 0)), (1, .int x1), (2, .int x2), (3, .int x3)] [] S := by
  intro H locs ls hP hD hS hl
  have hX0 := hX
  obtain ⟨hx, hb, hml, hown, hts, hlk, hr, hlv, hK, hZ⟩ := hX0
  unfold jm_reaches_L4 at h
  refine lv_iload_n hx hb dX6_reaches_4 rfl (lv_at hl 3 rfl) ?_
  refine lv_aload_n hx hb dX6_reaches_5 rfl (lv_at hl 0 rfl) ?_
  refine jm_get hx hb hts hown hK hP jm_f1 (by decide) jm_g1 dX6_reaches_6 ?_
  refine lv_iconst hx hb dX6_reaches_9 jx_ki2 ?_
  obtain ⟨j1, ej1, bj1, h⟩ := jx_ga_some h
  refine jm_iald hx hb hK hP jm_a1 ej1 bj1 dX6_reaches_10 ?_
  refine lv_icmp_ge (tgt := 59) hx hb dX6_reaches_11 rfl (fun c2 => ?_) (fun c2 => ?_)
  · rw [if_pos c2] at h
    refine lv_iload_n hx hb dX6_reaches_59 rfl (lv_at hl 2 rfl) ?_
    exact jm_iret hx hb hr hlk hK hZ hP hD hS h dX6_reaches_60
  · rw [if_neg c2] at h
    refine lv_iconst hx hb dX6_reaches_14 jx_ki0 ?_
    obtain ⟨y3, ey3, h⟩ := jx_nx_some h
    refine jx_topi ey3 ?_
    refine lv_istore (lv' := [(4, .int y3), (0, .ref (ad 0)), (1, .int x1), (2, .int x2), (3, .int x3)]) hx hb dX6_reaches_15 hl (Nat.le_of_ble_eq_true rfl) rfl (fun ls hl => ?_)
    exact jm_reaches_h17_ok hX F hr4 F _ h _ _ _ hP hD hS (lv_sub hl [1, 2, 3, 4, 0] rfl)
theorem jm_reaches_h4_ok {out : Int32 × jm_S} (hX : jm_Ok p R s m args meth c A D ck ad sa cX6_reaches 5 (some .int) 11) (F : Nat) (n : Nat) (a : Int32 × Int32 × Int32 × jm_S) (h : jm_reaches_h4 F n a = some out) : jm_J p l e R s m args below meth c A D ck ad 5 (jm_Qi below args s A D ck ad sa out) 4 [(0, .ref (ad 0)), (1, .int a.1), (2, .int a.2.1), (3, .int a.2.2.1)] [] a.2.2.2 :=
  jx_loop_ind (J := fun a => jm_J p l e R s m args below meth c A D ck ad 5 (jm_Qi below args s A D ck ad sa out) 4 [(0, .ref (ad 0)), (1, .int a.1), (2, .int a.2.1), (3, .int a.2.2.1)] [] a.2.2.2) (fun r hr a h => jm_reaches_L4_ok hX F hr a.1 a.2.1 a.2.2.1 a.2.2.2 h) n a h
theorem jm_reaches_ok {out : Int32 × jm_S} (hX : jm_Ok p R s m args meth c A D ck ad sa cX6_reaches 5 (some .int) 11) (F : Nat) (x1 : Int32) (S : jm_S) (h : jm_reaches F x1 S = some out) : jm_J p l e R s m args below meth c A D ck ad 5 (jm_Qi below args s A D ck ad sa out) 0 [(0, .ref (ad 0)), (1, .int x1)] [] S := by
  intro H locs ls hP hD hS hl
  have hX0 := hX
  obtain ⟨hx, hb, hml, hown, hts, hlk, hr, hlv, hK, hZ⟩ := hX0
  unfold jm_reaches at h
  refine lv_iconst hx hb dX6_reaches_0 jx_ki0 ?_
  obtain ⟨y1, ey1, h⟩ := jx_nx_some h
  refine jx_topi ey1 ?_
  refine lv_istore_n (lv' := [(2, .int y1), (0, .ref (ad 0)), (1, .int x1)]) hx hb dX6_reaches_1 rfl hl (Nat.le_of_ble_eq_true rfl) rfl (fun ls hl => ?_)
  refine lv_iconst hx hb dX6_reaches_2 jx_ki0 ?_
  obtain ⟨y2, ey2, h⟩ := jx_nx_some h
  refine jx_topi ey2 ?_
  refine lv_istore_n (lv' := [(3, .int y2), (2, .int y1), (0, .ref (ad 0)), (1, .int x1)]) hx hb dX6_reaches_3 rfl hl (Nat.le_of_ble_eq_true rfl) rfl (fun ls hl => ?_)
  exact jm_reaches_h4_ok hX F F _ h _ _ _ hP hD hS (lv_sub hl [2, 3, 1, 0] rfl)
theorem jm_reaches_met {l : Launch} {D : va_G} {ck : Nat → ClassId} {ad sa : Nat → Nat} {A : Nat → Prop} {F : Nat} {x1 : Int32} {S : jm_S} {out : Int32 × jm_S} (h : jm_reaches F x1 S = some out) : jm_Mi l D ck ad sa A yX6_reaches cX6_reaches 5 (some .int) 11 [.int x1] S out :=
  jm_Mi_of ⟨by decide, rfl, Nat.le_of_ble_eq_true rfl⟩ (fun hX => jm_reaches_ok hX F x1 S h)
theorem jm_count_d : yX6_count.cls = RX6 ∧ yX6_count.cls ≠ "java/lang/invoke/MethodHandle" ∧ yX6_count.cls ≠ "java/lang/invoke/VarHandle" ∧ (parseMethodDescriptor yX6_count.desc).map (fun d => d.parameters.length) = some 1 := by decide +kernel
theorem jm_count_b107_ok {out : Int32 × jm_S} (hX : jm_Ok p R s m args meth c A D ck ad sa cX6_count 4 (some .int) 12) (F : Nat) {r71 : Int32 × Int32 × Int32 × jm_S → Option (Int32 × jm_S)} (hr71 : ∀ a, r71 a = some out → jm_J p l e R s m args below meth c A D ck ad 4 (jm_Qi below args s A D ck ad sa out) 71 [(0, .ref (ad 0)), (1, .int a.1), (2, .int a.2.1), (3, .int a.2.2.1)] [] a.2.2.2) (x1 : Int32) (x3 : Int32) (k0 : Int32) (k1 : Int32) (S : jm_S) (h : jm_count_b107 F r71 x1 x3 k0 k1 S = some out) : jm_J p l e R s m args below meth c A D ck ad 4 (jm_Qi below args s A D ck ad sa out) 107 [(0, .ref (ad 0)), (1, .int x1), (3, .int x3)] [.int k0, .int k1] S := by
  intro H locs ls hP hD hS hl
  have hX0 := hX
  obtain ⟨hx, hb, hml, hown, hts, hlk, hr, hlv, hK, hZ⟩ := hX0
  unfold jm_count_b107 at h
  refine lv_iadd hx hb dX6_count_107 ?_
  obtain ⟨y1, ey1, h⟩ := jx_nx_some h
  refine jx_topi ey1 ?_
  refine lv_istore_n (lv' := [(2, .int y1), (0, .ref (ad 0)), (1, .int x1), (3, .int x3)]) hx hb dX6_count_108 rfl hl (Nat.le_of_ble_eq_true rfl) rfl (fun ls hl => ?_)
  obtain ⟨y2, ey2, h⟩ := jx_nx_some h
  refine lv_iinc (v := y2) (lv' := [(3, .int y2), (2, .int y1), (0, .ref (ad 0)), (1, .int x1)]) hx hb dX6_count_109 hl (k := 3) rfl (jx_inc jx_ki1 ey2) (Nat.le_of_ble_eq_true rfl) rfl (fun ls hl => ?_)
  refine lv_goto (tgt := 71) hx hb dX6_count_112 rfl ?_
  exact hr71 _ h _ _ _ hP hD hS (lv_sub hl [2, 3, 1, 0] rfl)
theorem jm_count_b102_ok {out : Int32 × jm_S} (hX : jm_Ok p R s m args meth c A D ck ad sa cX6_count 4 (some .int) 12) (F : Nat) {r71 : Int32 × Int32 × Int32 × jm_S → Option (Int32 × jm_S)} (hr71 : ∀ a, r71 a = some out → jm_J p l e R s m args below meth c A D ck ad 4 (jm_Qi below args s A D ck ad sa out) 71 [(0, .ref (ad 0)), (1, .int a.1), (2, .int a.2.1), (3, .int a.2.2.1)] [] a.2.2.2) (x1 : Int32) (x3 : Int32) (k0 : Int32) (S : jm_S) (h : jm_count_b102 F r71 x1 x3 k0 S = some out) : jm_J p l e R s m args below meth c A D ck ad 4 (jm_Qi below args s A D ck ad sa out) 102 [(0, .ref (ad 0)), (1, .int x1), (3, .int x3)] [.int k0] S := by
  intro H locs ls hP hD hS hl
  have hX0 := hX
  obtain ⟨hx, hb, hml, hown, hts, hlk, hr, hlv, hK, hZ⟩ := hX0
  unfold jm_count_b102 at h
  refine lv_iconst hx hb dX6_count_102 jx_ki1 ?_
  refine lv_goto (tgt := 107) hx hb dX6_count_103 rfl ?_
  exact jm_count_b107_ok hX F hr71 _ _ _ _ _ h _ _ _ hP hD hS hl
theorem jm_count_b106_ok {out : Int32 × jm_S} (hX : jm_Ok p R s m args meth c A D ck ad sa cX6_count 4 (some .int) 12) (F : Nat) {r71 : Int32 × Int32 × Int32 × jm_S → Option (Int32 × jm_S)} (hr71 : ∀ a, r71 a = some out → jm_J p l e R s m args below meth c A D ck ad 4 (jm_Qi below args s A D ck ad sa out) 71 [(0, .ref (ad 0)), (1, .int a.1), (2, .int a.2.1), (3, .int a.2.2.1)] [] a.2.2.2) (x1 : Int32) (x3 : Int32) (k0 : Int32) (S : jm_S) (h : jm_count_b106 F r71 x1 x3 k0 S = some out) : jm_J p l e R s m args below meth c A D ck ad 4 (jm_Qi below args s A D ck ad sa out) 106 [(0, .ref (ad 0)), (1, .int x1), (3, .int x3)] [.int k0] S := by
  intro H locs ls hP hD hS hl
  have hX0 := hX
  obtain ⟨hx, hb, hml, hown, hts, hlk, hr, hlv, hK, hZ⟩ := hX0
  unfold jm_count_b106 at h
  refine lv_iconst hx hb dX6_count_106 jx_ki0 ?_
  exact jm_count_b107_ok hX F hr71 _ _ _ _ _ h _ _ _ hP hD hS hl
theorem jm_count_L71_ok {out : Int32 × jm_S} (hX : jm_Ok p R s m args meth c A D ck ad sa cX6_count 4 (some .int) 12) (F : Nat) {r71 : Int32 × Int32 × Int32 × jm_S → Option (Int32 × jm_S)} (hr71 : ∀ a, r71 a = some out → jm_J p l e R s m args below meth c A D ck ad 4 (jm_Qi below args s A D ck ad sa out) 71 [(0, .ref (ad 0)), (1, .int a.1), (2, .int a.2.1), (3, .int a.2.2.1)] [] a.2.2.2) (x1 : Int32) (x2 : Int32) (x3 : Int32) (S : jm_S) (h : jm_count_L71 F r71 x1 x2 x3 S = some out) : jm_J p l e R s m args below meth c A D ck ad 4 (jm_Qi below args s A D ck ad sa out) 71 [(0, .ref (ad 0)), (1, .int x1), (2, .int x2), (3, .int x3)] [] S := by
  intro H locs ls hP hD hS hl
  have hX0 := hX
  obtain ⟨hx, hb, hml, hown, hts, hlk, hr, hlv, hK, hZ⟩ := hX0
  unfold jm_count_L71 at h
  refine lv_iload_n hx hb dX6_count_71 rfl (lv_at hl 3 rfl) ?_
  refine lv_aload_n hx hb dX6_count_72 rfl (lv_at hl 0 rfl) ?_
  obtain ⟨q1, eq1, h⟩ := jx_bi_some h
  refine jm_callI hx hb hml hown hts hlv hK hZ (jm_orders_met eq1) jm_orders_g jm_orders_d (As := []) (Nat.le_of_ble_eq_true rfl) (Nat.le_of_ble_eq_true rfl) hP hD hS hl.1 rfl rfl (lv_room (Nat.le_of_ble_eq_true rfl)) dX6_count_73 (fun H locs hP hD hS => ?_)
  refine lv_icmp_ge (tgt := 115) hx hb dX6_count_76 rfl (fun c2 => ?_) (fun c2 => ?_)
  · rw [if_pos c2] at h
    refine lv_iload_n hx hb dX6_count_115 rfl (lv_at hl 2 rfl) ?_
    exact jm_iret hx hb hr hlk hK hZ hP hD hS h dX6_count_116
  · rw [if_neg c2] at h
    refine lv_iload_n hx hb dX6_count_79 rfl (lv_at hl 2 rfl) ?_
    refine lv_aload_n hx hb dX6_count_80 rfl (lv_at hl 0 rfl) ?_
    refine lv_iload_n hx hb dX6_count_81 rfl (lv_at hl 3 rfl) ?_
    obtain ⟨q3, eq3, h⟩ := jx_bi_some h
    refine jm_callI hx hb hml hown hts hlv hK hZ (jm_isJump_met eq3) jm_isJump_g jm_isJump_d (As := [.int x3]) (Nat.le_of_ble_eq_true rfl) (Nat.le_of_ble_eq_true rfl) hP hD hS hl.1 rfl rfl (lv_room (Nat.le_of_ble_eq_true rfl)) dX6_count_82 (fun H locs hP hD hS => ?_)
    refine lv_if_eq (tgt := 106) hx hb dX6_count_85 rfl (fun c4 => ?_) (fun c4 => ?_)
    · rw [if_pos c4] at h
      exact jm_count_b106_ok hX F hr71 _ _ _ _ h _ _ _ hP hD hS (lv_sub hl [0, 1, 3] rfl)
    · rw [if_neg c4] at h
      refine lv_iload_n hx hb dX6_count_88 rfl (lv_at hl 1 rfl) ?_
      refine lv_iconst hx hb dX6_count_89 jx_ki1 ?_
      refine lv_icmp_eq (tgt := 102) hx hb dX6_count_90 rfl (fun c5 => ?_) (fun c5 => ?_)
      · rw [if_pos c5] at h
        exact jm_count_b102_ok hX F hr71 _ _ _ _ h _ _ _ hP hD hS (lv_sub hl [0, 1, 3] rfl)
      · rw [if_neg c5] at h
        refine lv_aload_n hx hb dX6_count_93 rfl (lv_at hl 0 rfl) ?_
        refine lv_iload_n hx hb dX6_count_94 rfl (lv_at hl 3 rfl) ?_
        refine lv_iconst hx hb dX6_count_95 jx_ki2 ?_
        obtain ⟨q6, eq6, h⟩ := jx_bi_some h
        refine jm_callI hx hb hml hown hts hlv hK hZ (jm_of_met eq6) jm_of_g jm_of_d (As := [.int x3, .int (nI 2)]) (Nat.le_of_ble_eq_true rfl) (Nat.le_of_ble_eq_true rfl) hP hD hS hl.1 rfl rfl (lv_room (Nat.le_of_ble_eq_true rfl)) dX6_count_96 (fun H locs hP hD hS => ?_)
        refine lv_if_le (tgt := 106) hx hb dX6_count_99 rfl (fun c7 => ?_) (fun c7 => ?_)
        · rw [if_pos c7] at h
          exact jm_count_b106_ok hX F hr71 _ _ _ _ h _ _ _ hP hD hS (lv_sub hl [0, 1, 3] rfl)
        · rw [if_neg c7] at h
          exact jm_count_b102_ok hX F hr71 _ _ _ _ h _ _ _ hP hD hS (lv_sub hl [0, 1, 3] rfl)
theorem jm_count_h71_ok {out : Int32 × jm_S} (hX : jm_Ok p R s m args meth c A D ck ad sa cX6_count 4 (some .int) 12) (F : Nat) (n : Nat) (a : Int32 × Int32 × Int32 × jm_S) (h : jm_count_h71 F n a = some out) : jm_J p l e R s m args below meth c A D ck ad 4 (jm_Qi below args s A D ck ad sa out) 71 [(0, .ref (ad 0)), (1, .int a.1), (2, .int a.2.1), (3, .int a.2.2.1)] [] a.2.2.2 :=
  jx_loop_ind (J := fun a => jm_J p l e R s m args below meth c A D ck ad 4 (jm_Qi below args s A D ck ad sa out) 71 [(0, .ref (ad 0)), (1, .int a.1), (2, .int a.2.1), (3, .int a.2.2.1)] [] a.2.2.2) (fun r hr a h => jm_count_L71_ok hX F hr a.1 a.2.1 a.2.2.1 a.2.2.2 h) n a h
theorem jm_count_b69_ok {out : Int32 × jm_S} (hX : jm_Ok p R s m args meth c A D ck ad sa cX6_count 4 (some .int) 12) (F : Nat) (x1 : Int32) (x2 : Int32) (S : jm_S) (h : jm_count_b69 F x1 x2 S = some out) : jm_J p l e R s m args below meth c A D ck ad 4 (jm_Qi below args s A D ck ad sa out) 69 [(0, .ref (ad 0)), (1, .int x1), (2, .int x2)] [] S := by
  intro H locs ls hP hD hS hl
  have hX0 := hX
  obtain ⟨hx, hb, hml, hown, hts, hlk, hr, hlv, hK, hZ⟩ := hX0
  unfold jm_count_b69 at h
  refine lv_iconst hx hb dX6_count_69 jx_ki0 ?_
  obtain ⟨y1, ey1, h⟩ := jx_nx_some h
  refine jx_topi ey1 ?_
  refine lv_istore_n (lv' := [(3, .int y1), (0, .ref (ad 0)), (1, .int x1), (2, .int x2)]) hx hb dX6_count_70 rfl hl (Nat.le_of_ble_eq_true rfl) rfl (fun ls hl => ?_)
  exact jm_count_h71_ok hX F F _ h _ _ _ hP hD hS (lv_sub hl [1, 2, 3, 0] rfl)
theorem jm_count_b163_ok {out : Int32 × jm_S} (hX : jm_Ok p R s m args meth c A D ck ad sa cX6_count 4 (some .int) 12) (F : Nat) {r140 : Int32 × Int32 × jm_S → Option (Int32 × jm_S)} (hr140 : ∀ a, r140 a = some out → jm_J p l e R s m args below meth c A D ck ad 4 (jm_Qi below args s A D ck ad sa out) 140 [(0, .ref (ad 0)), (2, .int a.1), (3, .int a.2.1)] [] a.2.2) (x3 : Int32) (k0 : Int32) (k1 : Int32) (S : jm_S) (h : jm_count_b163 F r140 x3 k0 k1 S = some out) : jm_J p l e R s m args below meth c A D ck ad 4 (jm_Qi below args s A D ck ad sa out) 163 [(0, .ref (ad 0)), (3, .int x3)] [.int k0, .int k1] S := by
  intro H locs ls hP hD hS hl
  have hX0 := hX
  obtain ⟨hx, hb, hml, hown, hts, hlk, hr, hlv, hK, hZ⟩ := hX0
  unfold jm_count_b163 at h
  refine lv_iadd hx hb dX6_count_163 ?_
  obtain ⟨y1, ey1, h⟩ := jx_nx_some h
  refine jx_topi ey1 ?_
  refine lv_istore_n (lv' := [(2, .int y1), (0, .ref (ad 0)), (3, .int x3)]) hx hb dX6_count_164 rfl hl (Nat.le_of_ble_eq_true rfl) rfl (fun ls hl => ?_)
  obtain ⟨y2, ey2, h⟩ := jx_nx_some h
  refine lv_iinc (v := y2) (lv' := [(3, .int y2), (2, .int y1), (0, .ref (ad 0))]) hx hb dX6_count_165 hl (k := 2) rfl (jx_inc jx_ki1 ey2) (Nat.le_of_ble_eq_true rfl) rfl (fun ls hl => ?_)
  refine lv_goto (tgt := 140) hx hb dX6_count_168 rfl ?_
  exact hr140 _ h _ _ _ hP hD hS (lv_sub hl [2, 1, 0] rfl)
theorem jm_count_L140_ok {out : Int32 × jm_S} (hX : jm_Ok p R s m args meth c A D ck ad sa cX6_count 4 (some .int) 12) (F : Nat) {r140 : Int32 × Int32 × jm_S → Option (Int32 × jm_S)} (hr140 : ∀ a, r140 a = some out → jm_J p l e R s m args below meth c A D ck ad 4 (jm_Qi below args s A D ck ad sa out) 140 [(0, .ref (ad 0)), (2, .int a.1), (3, .int a.2.1)] [] a.2.2) (x2 : Int32) (x3 : Int32) (S : jm_S) (h : jm_count_L140 F r140 x2 x3 S = some out) : jm_J p l e R s m args below meth c A D ck ad 4 (jm_Qi below args s A D ck ad sa out) 140 [(0, .ref (ad 0)), (2, .int x2), (3, .int x3)] [] S := by
  intro H locs ls hP hD hS hl
  have hX0 := hX
  obtain ⟨hx, hb, hml, hown, hts, hlk, hr, hlv, hK, hZ⟩ := hX0
  unfold jm_count_L140 at h
  refine lv_iload_n hx hb dX6_count_140 rfl (lv_at hl 2 rfl) ?_
  refine lv_aload_n hx hb dX6_count_141 rfl (lv_at hl 0 rfl) ?_
  obtain ⟨q1, eq1, h⟩ := jx_bi_some h
  refine jm_callI hx hb hml hown hts hlv hK hZ (jm_orders_met eq1) jm_orders_g jm_orders_d (As := []) (Nat.le_of_ble_eq_true rfl) (Nat.le_of_ble_eq_true rfl) hP hD hS hl.1 rfl rfl (lv_room (Nat.le_of_ble_eq_true rfl)) dX6_count_142 (fun H locs hP hD hS => ?_)
  refine lv_icmp_ge (tgt := 171) hx hb dX6_count_145 rfl (fun c2 => ?_) (fun c2 => ?_)
  · rw [if_pos c2] at h
    refine lv_iload_n hx hb dX6_count_171 rfl (lv_at hl 1 rfl) ?_
    exact jm_iret hx hb hr hlk hK hZ hP hD hS h dX6_count_172
  · rw [if_neg c2] at h
    refine lv_iload_n hx hb dX6_count_148 rfl (lv_at hl 1 rfl) ?_
    refine lv_aload_n hx hb dX6_count_149 rfl (lv_at hl 0 rfl) ?_
    refine lv_iload_n hx hb dX6_count_150 rfl (lv_at hl 2 rfl) ?_
    refine lv_iconst hx hb dX6_count_151 jx_ki1 ?_
    obtain ⟨q3, eq3, h⟩ := jx_bi_some h
    refine jm_callI hx hb hml hown hts hlv hK hZ (jm_of_met eq3) jm_of_g jm_of_d (As := [.int x3, .int (nI 1)]) (Nat.le_of_ble_eq_true rfl) (Nat.le_of_ble_eq_true rfl) hP hD hS hl.1 rfl rfl (lv_room (Nat.le_of_ble_eq_true rfl)) dX6_count_152 (fun H locs hP hD hS => ?_)
    refine lv_if_lt (tgt := 162) hx hb dX6_count_155 rfl (fun c4 => ?_) (fun c4 => ?_)
    · rw [if_pos c4] at h
      refine lv_iconst hx hb dX6_count_162 jx_ki0 ?_
      exact jm_count_b163_ok hX F hr140 _ _ _ _ h _ _ _ hP hD hS (lv_sub hl [0, 2] rfl)
    · rw [if_neg c4] at h
      refine lv_iconst hx hb dX6_count_158 jx_ki1 ?_
      refine lv_goto (tgt := 163) hx hb dX6_count_159 rfl ?_
      exact jm_count_b163_ok hX F hr140 _ _ _ _ h _ _ _ hP hD hS (lv_sub hl [0, 2] rfl)
theorem jm_count_h140_ok {out : Int32 × jm_S} (hX : jm_Ok p R s m args meth c A D ck ad sa cX6_count 4 (some .int) 12) (F : Nat) (n : Nat) (a : Int32 × Int32 × jm_S) (h : jm_count_h140 F n a = some out) : jm_J p l e R s m args below meth c A D ck ad 4 (jm_Qi below args s A D ck ad sa out) 140 [(0, .ref (ad 0)), (2, .int a.1), (3, .int a.2.1)] [] a.2.2 :=
  jx_loop_ind (J := fun a => jm_J p l e R s m args below meth c A D ck ad 4 (jm_Qi below args s A D ck ad sa out) 140 [(0, .ref (ad 0)), (2, .int a.1), (3, .int a.2.1)] [] a.2.2) (fun r hr a h => jm_count_L140_ok hX F hr a.1 a.2.1 a.2.2 h) n a h
theorem jm_count_b200_ok {out : Int32 × jm_S} (hX : jm_Ok p R s m args meth c A D ck ad sa cX6_count 4 (some .int) 12) (F : Nat) {r179 : Int32 × Int32 × jm_S → Option (Int32 × jm_S)} (hr179 : ∀ a, r179 a = some out → jm_J p l e R s m args below meth c A D ck ad 4 (jm_Qi below args s A D ck ad sa out) 179 [(0, .ref (ad 0)), (2, .int a.1), (3, .int a.2.1)] [] a.2.2) (x3 : Int32) (k0 : Int32) (k1 : Int32) (S : jm_S) (h : jm_count_b200 F r179 x3 k0 k1 S = some out) : jm_J p l e R s m args below meth c A D ck ad 4 (jm_Qi below args s A D ck ad sa out) 200 [(0, .ref (ad 0)), (3, .int x3)] [.int k0, .int k1] S := by
  intro H locs ls hP hD hS hl
  have hX0 := hX
  obtain ⟨hx, hb, hml, hown, hts, hlk, hr, hlv, hK, hZ⟩ := hX0
  unfold jm_count_b200 at h
  refine lv_iadd hx hb dX6_count_200 ?_
  obtain ⟨y1, ey1, h⟩ := jx_nx_some h
  refine jx_topi ey1 ?_
  refine lv_istore_n (lv' := [(2, .int y1), (0, .ref (ad 0)), (3, .int x3)]) hx hb dX6_count_201 rfl hl (Nat.le_of_ble_eq_true rfl) rfl (fun ls hl => ?_)
  obtain ⟨y2, ey2, h⟩ := jx_nx_some h
  refine lv_iinc (v := y2) (lv' := [(3, .int y2), (2, .int y1), (0, .ref (ad 0))]) hx hb dX6_count_202 hl (k := 2) rfl (jx_inc jx_ki1 ey2) (Nat.le_of_ble_eq_true rfl) rfl (fun ls hl => ?_)
  refine lv_goto (tgt := 179) hx hb dX6_count_205 rfl ?_
  exact hr179 _ h _ _ _ hP hD hS (lv_sub hl [2, 1, 0] rfl)
theorem jm_count_L179_ok {out : Int32 × jm_S} (hX : jm_Ok p R s m args meth c A D ck ad sa cX6_count 4 (some .int) 12) (F : Nat) {r179 : Int32 × Int32 × jm_S → Option (Int32 × jm_S)} (hr179 : ∀ a, r179 a = some out → jm_J p l e R s m args below meth c A D ck ad 4 (jm_Qi below args s A D ck ad sa out) 179 [(0, .ref (ad 0)), (2, .int a.1), (3, .int a.2.1)] [] a.2.2) (x2 : Int32) (x3 : Int32) (S : jm_S) (h : jm_count_L179 F r179 x2 x3 S = some out) : jm_J p l e R s m args below meth c A D ck ad 4 (jm_Qi below args s A D ck ad sa out) 179 [(0, .ref (ad 0)), (2, .int x2), (3, .int x3)] [] S := by
  intro H locs ls hP hD hS hl
  have hX0 := hX
  obtain ⟨hx, hb, hml, hown, hts, hlk, hr, hlv, hK, hZ⟩ := hX0
  unfold jm_count_L179 at h
  refine lv_iload_n hx hb dX6_count_179 rfl (lv_at hl 2 rfl) ?_
  refine lv_bipush hx hb dX6_count_180 jx_kb16 ?_
  refine lv_icmp_ge (tgt := 208) hx hb dX6_count_182 rfl (fun c1 => ?_) (fun c1 => ?_)
  · rw [if_pos c1] at h
    refine lv_iload_n hx hb dX6_count_208 rfl (lv_at hl 1 rfl) ?_
    exact jm_iret hx hb hr hlk hK hZ hP hD hS h dX6_count_209
  · rw [if_neg c1] at h
    refine lv_iload_n hx hb dX6_count_185 rfl (lv_at hl 1 rfl) ?_
    refine lv_aload_n hx hb dX6_count_186 rfl (lv_at hl 0 rfl) ?_
    refine jm_get hx hb hts hown hK hP jm_f13 (by decide) jm_g13 dX6_count_187 ?_
    refine lv_iload_n hx hb dX6_count_190 rfl (lv_at hl 2 rfl) ?_
    obtain ⟨j2, ej2, bj2, h⟩ := jx_ga_some h
    refine jm_zald hx hb hK hP jm_a13 ej2 bj2 dX6_count_191 ?_
    refine lv_if_eq (tgt := 199) hx hb dX6_count_192 rfl (fun c3 => ?_) (fun c3 => ?_)
    · rw [if_pos c3] at h
      refine lv_iconst hx hb dX6_count_199 jx_ki0 ?_
      exact jm_count_b200_ok hX F hr179 _ _ _ _ h _ _ _ hP hD hS (lv_sub hl [0, 2] rfl)
    · rw [if_neg c3] at h
      refine lv_iconst hx hb dX6_count_195 jx_ki1 ?_
      refine lv_goto (tgt := 200) hx hb dX6_count_196 rfl ?_
      exact jm_count_b200_ok hX F hr179 _ _ _ _ h _ _ _ hP hD hS (lv_sub hl [0, 2] rfl)
theorem jm_count_h179_ok {out : Int32 × jm_S} (hX : jm_Ok p R s m args meth c A D ck ad sa cX6_count 4 (some .int) 12) (F : Nat) (n : Nat) (a : Int32 × Int32 × jm_S) (h : jm_count_h179 F n a = some out) : jm_J p l e R s m args below meth c A D ck ad 4 (jm_Qi below args s A D ck ad sa out) 179 [(0, .ref (ad 0)), (2, .int a.1), (3, .int a.2.1)] [] a.2.2 :=
  jx_loop_ind (J := fun a => jm_J p l e R s m args below meth c A D ck ad 4 (jm_Qi below args s A D ck ad sa out) 179 [(0, .ref (ad 0)), (2, .int a.1), (3, .int a.2.1)] [] a.2.2) (fun r hr a h => jm_count_L179_ok hX F hr a.1 a.2.1 a.2.2 h) n a h
theorem jm_count_ok {out : Int32 × jm_S} (hX : jm_Ok p R s m args meth c A D ck ad sa cX6_count 4 (some .int) 12) (F : Nat) (x1 : Int32) (S : jm_S) (h : jm_count F x1 S = some out) : jm_J p l e R s m args below meth c A D ck ad 4 (jm_Qi below args s A D ck ad sa out) 0 [(0, .ref (ad 0)), (1, .int x1)] [] S := by
  intro H locs ls hP hD hS hl
  have hX0 := hX
  obtain ⟨hx, hb, hml, hown, hts, hlk, hr, hlv, hK, hZ⟩ := hX0
  unfold jm_count at h
  refine lv_aload_n hx hb dX6_count_0 rfl (lv_at hl 0 rfl) ?_
  refine lv_iconst hx hb dX6_count_1 jx_ki0 ?_
  obtain ⟨S1, eS1, h⟩ := jx_nx_some h
  refine jm_put hx hb hts hown hK hP hD hS eS1 jm_f0 (by decide) jm_n0 jm_d0 jm_p0 dX6_count_2 (fun H locs hP hD hS => ?_)
  refine lv_iconst hx hb dX6_count_5 jx_ki0 ?_
  obtain ⟨y2, ey2, h⟩ := jx_nx_some h
  refine jx_topi ey2 ?_
  refine lv_istore_n (lv' := [(2, .int y2), (0, .ref (ad 0)), (1, .int x1)]) hx hb dX6_count_6 rfl hl (Nat.le_of_ble_eq_true rfl) rfl (fun ls hl => ?_)
  refine lv_iload_n hx hb dX6_count_7 rfl (lv_at hl 2 rfl) ?_
  by_cases sw8_0 : x1 = nI 0
  · rw [if_pos sw8_0] at h
    refine lv_tableIn (tgt := 64) (off := 56) hx hb dX6_count_8 (by rw [sw8_0]; decide) (by rw [sw8_0]; decide) (by rw [sw8_0]; decide) rfl ?_
    refine lv_aload_n hx hb dX6_count_64 rfl (lv_at hl 1 rfl) ?_
    obtain ⟨q3, eq3, h⟩ := jx_bi_some h
    refine jm_callI hx hb hml hown hts hlv hK hZ (jm_orders_met eq3) jm_orders_g jm_orders_d (As := []) (Nat.le_of_ble_eq_true rfl) (Nat.le_of_ble_eq_true rfl) hP hD hS hl.1 rfl rfl (lv_room (Nat.le_of_ble_eq_true rfl)) dX6_count_65 (fun H locs hP hD hS => ?_)
    exact jm_iret hx hb hr hlk hK hZ hP hD hS h dX6_count_68
  · rw [if_neg sw8_0] at h
    by_cases sw8_1 : x1 = nI 1
    · rw [if_pos sw8_1] at h
      refine lv_tableIn (tgt := 69) (off := 61) hx hb dX6_count_8 (by rw [sw8_1]; decide) (by rw [sw8_1]; decide) (by rw [sw8_1]; decide) rfl ?_
      exact jm_count_b69_ok hX F _ _ _ h _ _ _ hP hD hS (lv_sub hl [1, 2, 0] rfl)
    · rw [if_neg sw8_1] at h
      by_cases sw8_2 : x1 = nI 2
      · rw [if_pos sw8_2] at h
        refine lv_tableIn (tgt := 69) (off := 61) hx hb dX6_count_8 (by rw [sw8_2]; decide) (by rw [sw8_2]; decide) (by rw [sw8_2]; decide) rfl ?_
        exact jm_count_b69_ok hX F _ _ _ h _ _ _ hP hD hS (lv_sub hl [1, 2, 0] rfl)
      · rw [if_neg sw8_2] at h
        by_cases sw8_3 : x1 = nI 3
        · rw [if_pos sw8_3] at h
          refine lv_tableIn (tgt := 117) (off := 109) hx hb dX6_count_8 (by rw [sw8_3]; decide) (by rw [sw8_3]; decide) (by rw [sw8_3]; decide) rfl ?_
          refine lv_aload_n hx hb dX6_count_117 rfl (lv_at hl 1 rfl) ?_
          refine jm_get hx hb hts hown hK hP jm_f1 (by decide) jm_g1 dX6_count_118 ?_
          refine lv_iconst hx hb dX6_count_121 jx_ki1 ?_
          obtain ⟨j4, ej4, bj4, h⟩ := jx_ga_some h
          refine jm_iald hx hb hK hP jm_a1 ej4 bj4 dX6_count_122 ?_
          exact jm_iret hx hb hr hlk hK hZ hP hD hS h dX6_count_123
        · rw [if_neg sw8_3] at h
          by_cases sw8_4 : x1 = nI 4
          · rw [if_pos sw8_4] at h
            refine lv_tableIn (tgt := 124) (off := 116) hx hb dX6_count_8 (by rw [sw8_4]; decide) (by rw [sw8_4]; decide) (by rw [sw8_4]; decide) rfl ?_
            refine lv_aload_n hx hb dX6_count_124 rfl (lv_at hl 1 rfl) ?_
            refine jm_get hx hb hts hown hK hP jm_f1 (by decide) jm_g1 dX6_count_125 ?_
            refine lv_iconst hx hb dX6_count_128 jx_ki2 ?_
            obtain ⟨j5, ej5, bj5, h⟩ := jx_ga_some h
            refine jm_iald hx hb hK hP jm_a1 ej5 bj5 dX6_count_129 ?_
            exact jm_iret hx hb hr hlk hK hZ hP hD hS h dX6_count_130
          · rw [if_neg sw8_4] at h
            by_cases sw8_5 : x1 = nI 5
            · rw [if_pos sw8_5] at h
              refine lv_tableIn (tgt := 131) (off := 123) hx hb dX6_count_8 (by rw [sw8_5]; decide) (by rw [sw8_5]; decide) (by rw [sw8_5]; decide) rfl ?_
              refine lv_aload_n hx hb dX6_count_131 rfl (lv_at hl 1 rfl) ?_
              refine jm_get hx hb hts hown hK hP jm_f1 (by decide) jm_g1 dX6_count_132 ?_
              refine lv_iconst hx hb dX6_count_135 jx_ki3 ?_
              obtain ⟨j6, ej6, bj6, h⟩ := jx_ga_some h
              refine jm_iald hx hb hK hP jm_a1 ej6 bj6 dX6_count_136 ?_
              exact jm_iret hx hb hr hlk hK hZ hP hD hS h dX6_count_137
            · rw [if_neg sw8_5] at h
              by_cases sw8_6 : x1 = nI 6
              · rw [if_pos sw8_6] at h
                refine lv_tableIn (tgt := 138) (off := 130) hx hb dX6_count_8 (by rw [sw8_6]; decide) (by rw [sw8_6]; decide) (by rw [sw8_6]; decide) rfl ?_
                refine lv_iconst hx hb dX6_count_138 jx_ki0 ?_
                obtain ⟨y7, ey7, h⟩ := jx_nx_some h
                refine jx_topi ey7 ?_
                refine lv_istore_n (lv' := [(3, .int y7), (2, .int y2), (0, .ref (ad 0)), (1, .int x1)]) hx hb dX6_count_139 rfl hl (Nat.le_of_ble_eq_true rfl) rfl (fun ls hl => ?_)
                exact jm_count_h140_ok hX F F _ h _ _ _ hP hD hS (lv_sub hl [2, 1, 0] rfl)
              · rw [if_neg sw8_6] at h
                by_cases sw8_7 : x1 = nI 7
                · rw [if_pos sw8_7] at h
                  refine lv_tableIn (tgt := 173) (off := 165) hx hb dX6_count_8 (by rw [sw8_7]; decide) (by rw [sw8_7]; decide) (by rw [sw8_7]; decide) rfl ?_
                  refine lv_aload_n hx hb dX6_count_173 rfl (lv_at hl 1 rfl) ?_
                  obtain ⟨q8, eq8, h⟩ := jx_bi_some h
                  refine jm_callV hx hb hml hown hts hlv hK hZ (jm_flows_met eq8) jm_flows_g jm_flows_d (As := []) (Nat.le_of_ble_eq_true rfl) (Nat.le_of_ble_eq_true rfl) hP hD hS hl.1 rfl rfl (lv_room (Nat.le_of_ble_eq_true rfl)) dX6_count_174 (fun H locs hP hD hS => ?_)
                  refine lv_iconst hx hb dX6_count_177 jx_ki0 ?_
                  obtain ⟨y9, ey9, h⟩ := jx_nx_some h
                  refine jx_topi ey9 ?_
                  refine lv_istore_n (lv' := [(3, .int y9), (2, .int y2), (0, .ref (ad 0)), (1, .int x1)]) hx hb dX6_count_178 rfl hl (Nat.le_of_ble_eq_true rfl) rfl (fun ls hl => ?_)
                  exact jm_count_h179_ok hX F F _ h _ _ _ hP hD hS (lv_sub hl [2, 1, 0] rfl)
                · rw [if_neg sw8_7] at h
                  by_cases sw8_8 : x1 = nI 8
                  · rw [if_pos sw8_8] at h
                    refine lv_tableIn (tgt := 210) (off := 202) hx hb dX6_count_8 (by rw [sw8_8]; decide) (by rw [sw8_8]; decide) (by rw [sw8_8]; decide) rfl ?_
                    refine lv_aload_n hx hb dX6_count_210 rfl (lv_at hl 1 rfl) ?_
                    refine lv_iconst hx hb dX6_count_211 jx_ki0 ?_
                    obtain ⟨q10, eq10, h⟩ := jx_bi_some h
                    refine jm_callI hx hb hml hown hts hlv hK hZ (jm_reaches_met eq10) jm_reaches_g jm_reaches_d (As := [.int (nI 0)]) (Nat.le_of_ble_eq_true rfl) (Nat.le_of_ble_eq_true rfl) hP hD hS hl.1 rfl rfl (lv_room (Nat.le_of_ble_eq_true rfl)) dX6_count_212 (fun H locs hP hD hS => ?_)
                    exact jm_iret hx hb hr hlk hK hZ hP hD hS h dX6_count_215
                  · rw [if_neg sw8_8] at h
                    by_cases sw8_9 : x1 = nI 9
                    · rw [if_pos sw8_9] at h
                      refine lv_tableIn (tgt := 216) (off := 208) hx hb dX6_count_8 (by rw [sw8_9]; decide) (by rw [sw8_9]; decide) (by rw [sw8_9]; decide) rfl ?_
                      refine lv_aload_n hx hb dX6_count_216 rfl (lv_at hl 1 rfl) ?_
                      refine lv_iconst hx hb dX6_count_217 jx_ki1 ?_
                      obtain ⟨q11, eq11, h⟩ := jx_bi_some h
                      refine jm_callI hx hb hml hown hts hlv hK hZ (jm_reaches_met eq11) jm_reaches_g jm_reaches_d (As := [.int (nI 1)]) (Nat.le_of_ble_eq_true rfl) (Nat.le_of_ble_eq_true rfl) hP hD hS hl.1 rfl rfl (lv_room (Nat.le_of_ble_eq_true rfl)) dX6_count_218 (fun H locs hP hD hS => ?_)
                      exact jm_iret hx hb hr hlk hK hZ hP hD hS h dX6_count_221
                    · rw [if_neg sw8_9] at h
                      refine lv_tableOut (tgt := 222) hx hb dX6_count_8 (jx_sw10 sw8_0 sw8_1 sw8_2 sw8_3 sw8_4 sw8_5 sw8_6 sw8_7 sw8_8 sw8_9) rfl ?_
                      refine lv_iconst hx hb dX6_count_222 jx_kim1 ?_
                      exact jm_iret hx hb hr hlk hK hZ hP hD hS h dX6_count_223
theorem jm_count_met {l : Launch} {D : va_G} {ck : Nat → ClassId} {ad sa : Nat → Nat} {A : Nat → Prop} {F : Nat} {x1 : Int32} {S : jm_S} {out : Int32 × jm_S} (h : jm_count F x1 S = some out) : jm_Mi l D ck ad sa A yX6_count cX6_count 4 (some .int) 12 [.int x1] S out :=
  jm_Mi_of ⟨by decide, rfl, Nat.le_of_ble_eq_true rfl⟩ (fun hX => jm_count_ok hX F x1 S h)
end

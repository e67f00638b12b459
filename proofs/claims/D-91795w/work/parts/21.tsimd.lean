set_option maxRecDepth 100000
set_option maxHeartbeats 4000000
section
variable {p : Program} {l : Launch} {e : Env} {R : Room} {s : State} {m : MethodId} {args : Array Value} {below : List Frame} {meth : Method} {c : Code} {A : Nat → Prop} {D : va_G} {ck : Nat → ClassId} {ad sa : Nat → Nat} {lv : Nat}
theorem jm_step_d : yX6_step.cls = RX6 ∧ yX6_step.cls ≠ "java/lang/invoke/MethodHandle" ∧ yX6_step.cls ≠ "java/lang/invoke/VarHandle" ∧ (parseMethodDescriptor yX6_step.desc).map (fun d => d.parameters.length) = some 2 := by decide +kernel
theorem jm_step_ok {out : Int32 × jm_S} (hX : jm_Ok p R s m args meth c A D ck ad sa cX6_step 3 (some .int) 10) (F : Nat) (x1 : Int32) (x2 : Int32) (S : jm_S) (h : jm_step F x1 x2 S = some out) : jm_J p l e R s m args below meth c A D ck ad 3 (jm_Qi below args s A D ck ad sa out) 0 [(0, .ref (ad 0)), (1, .int x1), (2, .int x2)] [] S := by
  intro H locs ls hP hD hS hl
  have hX0 := hX
  obtain ⟨hx, hb, hml, hown, hts, hlk, hr, hlv, hK, hZ⟩ := hX0
  unfold jm_step at h
  refine lv_aload_n hx hb dX6_step_0 rfl (lv_at hl 0 rfl) ?_
  refine lv_iconst hx hb dX6_step_1 jx_ki0 ?_
  obtain ⟨S1, eS1, h⟩ := jx_nx_some h
  refine jm_put hx hb hts hown hK hP hD hS eS1 jm_f0 (by decide) jm_n0 jm_d0 jm_p0 dX6_step_2 (fun H locs hP hD hS => ?_)
  refine lv_aload_n hx hb dX6_step_5 rfl (lv_at hl 0 rfl) ?_
  refine lv_iload_n hx hb dX6_step_6 rfl (lv_at hl 1 rfl) ?_
  refine lv_iconst hx hb dX6_step_7 jx_ki1 ?_
  obtain ⟨q2, eq2, h⟩ := jx_bi_some h
  refine jm_callV hx hb hml hown hts hlv hK hZ (jm_runs_met eq2) jm_runs_g jm_runs_d (As := [.int x1, .int (nI 1)]) (Nat.le_of_ble_eq_true rfl) (Nat.le_of_ble_eq_true rfl) hP hD hS hl.1 rfl rfl (lv_room (Nat.le_of_ble_eq_true rfl)) dX6_step_8 (fun H locs hP hD hS => ?_)
  refine lv_iload_n hx hb dX6_step_11 rfl (lv_at hl 2 rfl) ?_
  refine lv_iconst hx hb dX6_step_12 jx_ki0 ?_
  refine lv_aload_n hx hb dX6_step_13 rfl (lv_at hl 0 rfl) ?_
  refine jm_get hx hb hts hown hK hP jm_f24 (by decide) jm_g24 dX6_step_14 ?_
  refine lv_iconst hx hb dX6_step_17 jx_ki1 ?_
  refine lv_isub hx hb dX6_step_18 ?_
  obtain ⟨q3, eq3, h⟩ := jx_bi_some h
  refine jx_callSi hx hb hml hown hts (jm_in_met eq3) jm_in_g_X6 jm_in_d (As := [.int x2, .int (nI 0), .int ((q2.1 24) - (nI 1))]) (by rw [hlv]; decide) hl.1 rfl rfl (lv_room (Nat.le_of_ble_eq_true rfl)) dX6_step_19 (by rw [hlv]; exact ⟨Nat.zero_le _, Nat.zero_le _⟩) ?_
  refine lv_if_eq (tgt := 34) hx hb dX6_step_22 rfl (fun c4 => ?_) (fun c4 => ?_)
  · rw [if_pos c4] at h
    refine lv_iconst hx hb dX6_step_34 jx_kim1 ?_
    exact jm_iret hx hb hr hlk hK hZ hP hD hS h dX6_step_35
  · rw [if_neg c4] at h
    refine lv_aload_n hx hb dX6_step_25 rfl (lv_at hl 0 rfl) ?_
    refine jm_get hx hb hts hown hK hP jm_f22 (by decide) jm_g22 dX6_step_26 ?_
    refine lv_iload_n hx hb dX6_step_29 rfl (lv_at hl 2 rfl) ?_
    obtain ⟨j5, ej5, bj5, h⟩ := jx_ga_some h
    refine jm_iald hx hb hK hP jm_a22 ej5 bj5 dX6_step_30 ?_
    refine lv_goto (tgt := 35) hx hb dX6_step_31 rfl ?_
    exact jm_iret hx hb hr hlk hK hZ hP hD hS h dX6_step_35
theorem jm_step_met {l : Launch} {D : va_G} {ck : Nat → ClassId} {ad sa : Nat → Nat} {A : Nat → Prop} {F : Nat} {x1 : Int32} {x2 : Int32} {S : jm_S} {out : Int32 × jm_S} (h : jm_step F x1 x2 S = some out) : jm_Mi l D ck ad sa A yX6_step cX6_step 3 (some .int) 10 [.int x1, .int x2] S out :=
  jm_Mi_of ⟨by decide, rfl, Nat.le_of_ble_eq_true rfl⟩ (fun hX => jm_step_ok hX F x1 x2 S h)
theorem jm_said_d : yX6_said.cls = RX6 ∧ yX6_said.cls ≠ "java/lang/invoke/MethodHandle" ∧ yX6_said.cls ≠ "java/lang/invoke/VarHandle" ∧ (parseMethodDescriptor yX6_said.desc).map (fun d => d.parameters.length) = some 2 := by decide +kernel
theorem jm_said_ok {out : Int32 × jm_S} (hX : jm_Ok p R s m args meth c A D ck ad sa cX6_said 3 (some .int) 10) (F : Nat) (x1 : Int32) (x2 : Int32) (S : jm_S) (h : jm_said F x1 x2 S = some out) : jm_J p l e R s m args below meth c A D ck ad 3 (jm_Qi below args s A D ck ad sa out) 0 [(0, .ref (ad 0)), (1, .int x1), (2, .int x2)] [] S := by
  intro H locs ls hP hD hS hl
  have hX0 := hX
  obtain ⟨hx, hb, hml, hown, hts, hlk, hr, hlv, hK, hZ⟩ := hX0
  unfold jm_said at h
  refine lv_aload_n hx hb dX6_said_0 rfl (lv_at hl 0 rfl) ?_
  refine lv_iconst hx hb dX6_said_1 jx_ki0 ?_
  obtain ⟨S1, eS1, h⟩ := jx_nx_some h
  refine jm_put hx hb hts hown hK hP hD hS eS1 jm_f0 (by decide) jm_n0 jm_d0 jm_p0 dX6_said_2 (fun H locs hP hD hS => ?_)
  refine lv_aload_n hx hb dX6_said_5 rfl (lv_at hl 0 rfl) ?_
  refine lv_iload_n hx hb dX6_said_6 rfl (lv_at hl 1 rfl) ?_
  refine lv_iconst hx hb dX6_said_7 jx_ki1 ?_
  obtain ⟨q2, eq2, h⟩ := jx_bi_some h
  refine jm_callV hx hb hml hown hts hlv hK hZ (jm_runs_met eq2) jm_runs_g jm_runs_d (As := [.int x1, .int (nI 1)]) (Nat.le_of_ble_eq_true rfl) (Nat.le_of_ble_eq_true rfl) hP hD hS hl.1 rfl rfl (lv_room (Nat.le_of_ble_eq_true rfl)) dX6_said_8 (fun H locs hP hD hS => ?_)
  refine lv_iload_n hx hb dX6_said_11 rfl (lv_at hl 2 rfl) ?_
  refine lv_iconst hx hb dX6_said_12 jx_ki0 ?_
  refine lv_aload_n hx hb dX6_said_13 rfl (lv_at hl 0 rfl) ?_
  refine jm_get hx hb hts hown hK hP jm_f25 (by decide) jm_g25 dX6_said_14 ?_
  refine lv_iconst hx hb dX6_said_17 jx_ki1 ?_
  refine lv_isub hx hb dX6_said_18 ?_
  obtain ⟨q3, eq3, h⟩ := jx_bi_some h
  refine jx_callSi hx hb hml hown hts (jm_in_met eq3) jm_in_g_X6 jm_in_d (As := [.int x2, .int (nI 0), .int ((q2.1 25) - (nI 1))]) (by rw [hlv]; decide) hl.1 rfl rfl (lv_room (Nat.le_of_ble_eq_true rfl)) dX6_said_19 (by rw [hlv]; exact ⟨Nat.zero_le _, Nat.zero_le _⟩) ?_
  refine lv_if_eq (tgt := 34) hx hb dX6_said_22 rfl (fun c4 => ?_) (fun c4 => ?_)
  · rw [if_pos c4] at h
    refine lv_ldcw hx hb hown (hts _ q1975) dX6_said_34 ?_
    exact jm_iret hx hb hr hlk hK hZ hP hD hS h dX6_said_37
  · rw [if_neg c4] at h
    refine lv_aload_n hx hb dX6_said_25 rfl (lv_at hl 0 rfl) ?_
    refine jm_get hx hb hts hown hK hP jm_f23 (by decide) jm_g23 dX6_said_26 ?_
    refine lv_iload_n hx hb dX6_said_29 rfl (lv_at hl 2 rfl) ?_
    obtain ⟨j5, ej5, bj5, h⟩ := jx_ga_some h
    refine jm_iald hx hb hK hP jm_a23 ej5 bj5 dX6_said_30 ?_
    refine lv_goto (tgt := 37) hx hb dX6_said_31 rfl ?_
    exact jm_iret hx hb hr hlk hK hZ hP hD hS h dX6_said_37
theorem jm_said_met {l : Launch} {D : va_G} {ck : Nat → ClassId} {ad sa : Nat → Nat} {A : Nat → Prop} {F : Nat} {x1 : Int32} {x2 : Int32} {S : jm_S} {out : Int32 × jm_S} (h : jm_said F x1 x2 S = some out) : jm_Mi l D ck ad sa A yX6_said cX6_said 3 (some .int) 10 [.int x1, .int x2] S out :=
  jm_Mi_of ⟨by decide, rfl, Nat.le_of_ble_eq_true rfl⟩ (fun hX => jm_said_ok hX F x1 x2 S h)
theorem jm_cell_d : yX6_cell.cls = RX6 ∧ yX6_cell.cls ≠ "java/lang/invoke/MethodHandle" ∧ yX6_cell.cls ≠ "java/lang/invoke/VarHandle" ∧ (parseMethodDescriptor yX6_cell.desc).map (fun d => d.parameters.length) = some 2 := by decide +kernel
theorem jm_cell_ok {out : Int32 × jm_S} (hX : jm_Ok p R s m args meth c A D ck ad sa cX6_cell 3 (some .int) 10) (F : Nat) (x1 : Int32) (x2 : Int32) (S : jm_S) (h : jm_cell F x1 x2 S = some out) : jm_J p l e R s m args below meth c A D ck ad 3 (jm_Qi below args s A D ck ad sa out) 0 [(0, .ref (ad 0)), (1, .int x1), (2, .int x2)] [] S := by
  intro H locs ls hP hD hS hl
  have hX0 := hX
  obtain ⟨hx, hb, hml, hown, hts, hlk, hr, hlv, hK, hZ⟩ := hX0
  unfold jm_cell at h
  refine lv_aload_n hx hb dX6_cell_0 rfl (lv_at hl 0 rfl) ?_
  refine lv_iconst hx hb dX6_cell_1 jx_ki0 ?_
  obtain ⟨S1, eS1, h⟩ := jx_nx_some h
  refine jm_put hx hb hts hown hK hP hD hS eS1 jm_f0 (by decide) jm_n0 jm_d0 jm_p0 dX6_cell_2 (fun H locs hP hD hS => ?_)
  refine lv_aload_n hx hb dX6_cell_5 rfl (lv_at hl 0 rfl) ?_
  refine lv_iload_n hx hb dX6_cell_6 rfl (lv_at hl 2 rfl) ?_
  obtain ⟨q2, eq2, h⟩ := jx_bi_some h
  refine jx_callSi hx hb hml hown hts (jm_noCell_met eq2) jm_noCell_g_X6 jm_noCell_d (As := [.int x2]) (by rw [hlv]; decide) hl.1 rfl rfl (lv_room (Nat.le_of_ble_eq_true rfl)) dX6_cell_7 (by rw [hlv]; exact ⟨Nat.zero_le _, Nat.zero_le _⟩) ?_
  refine lv_iconst hx hb dX6_cell_10 jx_ki1 ?_
  obtain ⟨q3, eq3, h⟩ := jx_bi_some h
  refine jm_callI hx hb hml hown hts hlv hK hZ (jm_throwsIf_met eq3) jm_throwsIf_g jm_throwsIf_d (As := [.int q2, .int (nI 1)]) (Nat.le_of_ble_eq_true rfl) (Nat.le_of_ble_eq_true rfl) hP hD hS hl.1 rfl rfl (lv_room (Nat.le_of_ble_eq_true rfl)) dX6_cell_11 (fun H locs hP hD hS => ?_)
  refine lv_if_eq (tgt := 19) hx hb dX6_cell_14 rfl (fun c4 => ?_) (fun c4 => ?_)
  · rw [if_pos c4] at h
    refine lv_aload_n hx hb dX6_cell_19 rfl (lv_at hl 0 rfl) ?_
    refine lv_iload_n hx hb dX6_cell_20 rfl (lv_at hl 1 rfl) ?_
    refine lv_iconst hx hb dX6_cell_21 jx_ki1 ?_
    obtain ⟨q5, eq5, h⟩ := jx_bi_some h
    refine jm_callV hx hb hml hown hts hlv hK hZ (jm_runs_met eq5) jm_runs_g jm_runs_d (As := [.int x1, .int (nI 1)]) (Nat.le_of_ble_eq_true rfl) (Nat.le_of_ble_eq_true rfl) hP hD hS hl.1 rfl rfl (lv_room (Nat.le_of_ble_eq_true rfl)) dX6_cell_22 (fun H locs hP hD hS => ?_)
    refine lv_aload_n hx hb dX6_cell_25 rfl (lv_at hl 0 rfl) ?_
    refine jm_get hx hb hts hown hK hP jm_f16 (by decide) jm_g16 dX6_cell_26 ?_
    refine lv_iload_n hx hb dX6_cell_29 rfl (lv_at hl 2 rfl) ?_
    obtain ⟨j6, ej6, bj6, h⟩ := jx_ga_some h
    refine jm_iald hx hb hK hP jm_a16 ej6 bj6 dX6_cell_30 ?_
    exact jm_iret hx hb hr hlk hK hZ hP hD hS h dX6_cell_31
  · rw [if_neg c4] at h
    refine lv_iconst hx hb dX6_cell_17 jx_ki0 ?_
    exact jm_iret hx hb hr hlk hK hZ hP hD hS h dX6_cell_18
theorem jm_cell_met {l : Launch} {D : va_G} {ck : Nat → ClassId} {ad sa : Nat → Nat} {A : Nat → Prop} {F : Nat} {x1 : Int32} {x2 : Int32} {S : jm_S} {out : Int32 × jm_S} (h : jm_cell F x1 x2 S = some out) : jm_Mi l D ck ad sa A yX6_cell cX6_cell 3 (some .int) 10 [.int x1, .int x2] S out :=
  jm_Mi_of ⟨by decide, rfl, Nat.le_of_ble_eq_true rfl⟩ (fun hX => jm_cell_ok hX F x1 x2 S h)
theorem jm_power_d : yX6_power.cls = RX6 ∧ yX6_power.cls ≠ "java/lang/invoke/MethodHandle" ∧ yX6_power.cls ≠ "java/lang/invoke/VarHandle" ∧ (parseMethodDescriptor yX6_power.desc).map (fun d => d.parameters.length) = some 2 := by decide +kernel
theorem jm_power_b97_ok {out : Int32 × jm_S} (hX : jm_Ok p R s m args meth c A D ck ad sa cX6_power 4 (some .int) 1) (F : Nat) (x3 : Int32) (k0 : Int32) (k1 : Int32) (S : jm_S) (h : jm_power_b97 F x3 k0 k1 S = some out) : jm_J p l e R s m args below meth c A D ck ad 4 (jm_Qi below args s A D ck ad sa out) 97 [(0, .ref (ad 0)), (3, .int x3)] [.int k0, .int k1, .ref (ad 1)] S := by
  intro H locs ls hP hD hS hl
  have hX0 := hX
  obtain ⟨hx, hb, hml, hown, hts, hlk, hr, hlv, hK, hZ⟩ := hX0
  unfold jm_power_b97 at h
  obtain ⟨j1, ej1, bj1, h⟩ := jx_ga_some h
  obtain ⟨S2, eS2, h⟩ := jx_nx_some h
  refine jm_iast hx hb hK hP hD hS jm_a1 (fun f => jm_u1 f) ej1 bj1 eS2 dX6_power_97 (fun H locs hP hD hS => ?_)
  refine lv_aload_n hx hb dX6_power_98 rfl (lv_at hl 0 rfl) ?_
  refine jm_get hx hb hts hown hK hP jm_f1 (by decide) jm_g1 dX6_power_99 ?_
  refine lv_iconst hx hb dX6_power_102 jx_ki2 ?_
  refine lv_dup2_11 hx hb dX6_power_103 rfl rfl ?_
  obtain ⟨j3, ej3, bj3, h⟩ := jx_ga_some h
  refine jm_iald hx hb hK hP jm_a1 ej3 bj3 dX6_power_104 ?_
  refine lv_iconst hx hb dX6_power_105 jx_ki1 ?_
  refine lv_iadd hx hb dX6_power_106 ?_
  obtain ⟨j4, ej4, bj4, h⟩ := jx_ga_some h
  obtain ⟨S5, eS5, h⟩ := jx_nx_some h
  refine jm_iast hx hb hK hP hD hS jm_a1 (fun f => jm_u1 f) ej4 bj4 eS5 dX6_power_107 (fun H locs hP hD hS => ?_)
  refine lv_iload_n hx hb dX6_power_108 rfl (lv_at hl 1 rfl) ?_
  exact jm_iret hx hb hr hlk hK hZ hP hD hS h dX6_power_109
theorem jm_power_b46_ok {out : Int32 × jm_S} (hX : jm_Ok p R s m args meth c A D ck ad sa cX6_power 4 (some .int) 1) (F : Nat) (x1 : Int32) (x2 : Int32) (k0 : Int32) (S : jm_S) (h : jm_power_b46 F x1 x2 k0 S = some out) : jm_J p l e R s m args below meth c A D ck ad 4 (jm_Qi below args s A D ck ad sa out) 46 [(0, .ref (ad 0)), (1, .int x1), (2, .int x2)] [.int k0, .ref (ad 0)] S := by
  intro H locs ls hP hD hS hl
  have hX0 := hX
  obtain ⟨hx, hb, hml, hown, hts, hlk, hr, hlv, hK, hZ⟩ := hX0
  unfold jm_power_b46 at h
  refine lv_iconst hx hb dX6_power_46 jx_ki2 ?_
  obtain ⟨q1, eq1, h⟩ := jx_bi_some h
  refine jm_callI hx hb hml hown hts hlv hK hZ (jm_throwsIf_met eq1) jm_throwsIf_g jm_throwsIf_d (As := [.int k0, .int (nI 2)]) (Nat.le_of_ble_eq_true rfl) (Nat.le_of_ble_eq_true rfl) hP hD hS hl.1 rfl rfl (lv_room (Nat.le_of_ble_eq_true rfl)) dX6_power_47 (fun H locs hP hD hS => ?_)
  refine lv_if_eq (tgt := 55) hx hb dX6_power_50 rfl (fun c2 => ?_) (fun c2 => ?_)
  · rw [if_pos c2] at h
    refine lv_aload_n hx hb dX6_power_55 rfl (lv_at hl 0 rfl) ?_
    refine jm_get hx hb hts hown hK hP jm_f1 (by decide) jm_g1 dX6_power_56 ?_
    refine lv_iconst hx hb dX6_power_59 jx_ki2 ?_
    obtain ⟨j3, ej3, bj3, h⟩ := jx_ga_some h
    refine jm_iald hx hb hK hP jm_a1 ej3 bj3 dX6_power_60 ?_
    obtain ⟨y4, ey4, h⟩ := jx_nx_some h
    refine jx_topi ey4 ?_
    refine lv_istore_n (lv' := [(3, .int y4), (0, .ref (ad 0)), (1, .int x1), (2, .int x2)]) hx hb dX6_power_61 rfl hl (Nat.le_of_ble_eq_true rfl) rfl (fun ls hl => ?_)
    refine lv_aload_n hx hb dX6_power_62 rfl (lv_at hl 1 rfl) ?_
    refine jm_get hx hb hts hown hK hP jm_f1 (by decide) jm_g1 dX6_power_63 ?_
    refine lv_sipush hx hb dX6_power_66 jx_ks392 ?_
    refine lv_iconst hx hb dX6_power_69 jx_ki2 ?_
    refine lv_iload_n hx hb dX6_power_70 rfl (lv_at hl 0 rfl) ?_
    refine lv_imul hx hb dX6_power_71 ?_
    refine lv_iadd hx hb dX6_power_72 ?_
    refine lv_iload_n hx hb dX6_power_73 rfl (lv_at hl 2 rfl) ?_
    obtain ⟨j5, ej5, bj5, h⟩ := jx_ga_some h
    obtain ⟨S6, eS6, h⟩ := jx_nx_some h
    refine jm_iast hx hb hK hP hD hS jm_a1 (fun f => jm_u1 f) ej5 bj5 eS6 dX6_power_74 (fun H locs hP hD hS => ?_)
    refine lv_aload_n hx hb dX6_power_75 rfl (lv_at hl 1 rfl) ?_
    refine jm_get hx hb hts hown hK hP jm_f1 (by decide) jm_g1 dX6_power_76 ?_
    refine lv_sipush hx hb dX6_power_79 jx_ks392 ?_
    refine lv_iconst hx hb dX6_power_82 jx_ki2 ?_
    refine lv_iload_n hx hb dX6_power_83 rfl (lv_at hl 0 rfl) ?_
    refine lv_imul hx hb dX6_power_84 ?_
    refine lv_iadd hx hb dX6_power_85 ?_
    refine lv_iconst hx hb dX6_power_86 jx_ki1 ?_
    refine lv_iadd hx hb dX6_power_87 ?_
    refine lv_iload_n hx hb dX6_power_88 rfl (lv_at hl 3 rfl) ?_
    refine lv_if_eq (tgt := 96) hx hb dX6_power_89 rfl (fun c7 => ?_) (fun c7 => ?_)
    · rw [if_pos c7] at h
      refine lv_iconst hx hb dX6_power_96 jx_ki0 ?_
      exact jm_power_b97_ok hX F _ _ _ _ h _ _ _ hP hD hS (lv_sub hl [1, 0] rfl)
    · rw [if_neg c7] at h
      refine lv_iconst hx hb dX6_power_92 jx_ki1 ?_
      refine lv_goto (tgt := 97) hx hb dX6_power_93 rfl ?_
      exact jm_power_b97_ok hX F _ _ _ _ h _ _ _ hP hD hS (lv_sub hl [1, 0] rfl)
  · rw [if_neg c2] at h
    refine lv_iconst hx hb dX6_power_53 jx_ki0 ?_
    exact jm_iret hx hb hr hlk hK hZ hP hD hS h dX6_power_54
theorem jm_power_b22_ok {out : Int32 × jm_S} (hX : jm_Ok p R s m args meth c A D ck ad sa cX6_power 4 (some .int) 1) (F : Nat) (x1 : Int32) (x2 : Int32) (k0 : Int32) (S : jm_S) (h : jm_power_b22 F x1 x2 k0 S = some out) : jm_J p l e R s m args below meth c A D ck ad 4 (jm_Qi below args s A D ck ad sa out) 22 [(0, .ref (ad 0)), (1, .int x1), (2, .int x2)] [.int k0, .ref (ad 0)] S := by
  intro H locs ls hP hD hS hl
  have hX0 := hX
  obtain ⟨hx, hb, hml, hown, hts, hlk, hr, hlv, hK, hZ⟩ := hX0
  unfold jm_power_b22 at h
  refine lv_iconst hx hb dX6_power_22 jx_ki1 ?_
  obtain ⟨q1, eq1, h⟩ := jx_bi_some h
  refine jm_callI hx hb hml hown hts hlv hK hZ (jm_throwsIf_met eq1) jm_throwsIf_g jm_throwsIf_d (As := [.int k0, .int (nI 1)]) (Nat.le_of_ble_eq_true rfl) (Nat.le_of_ble_eq_true rfl) hP hD hS hl.1 rfl rfl (lv_room (Nat.le_of_ble_eq_true rfl)) dX6_power_23 (fun H locs hP hD hS => ?_)
  refine lv_if_ne (tgt := 53) hx hb dX6_power_26 rfl (fun c2 => ?_) (fun c2 => ?_)
  · rw [if_neg c2] at h
    refine lv_iconst hx hb dX6_power_53 jx_ki0 ?_
    exact jm_iret hx hb hr hlk hK hZ hP hD hS h dX6_power_54
  · rw [if_pos c2] at h
    refine lv_aload_n hx hb dX6_power_29 rfl (lv_at hl 0 rfl) ?_
    refine lv_aload_n hx hb dX6_power_30 rfl (lv_at hl 0 rfl) ?_
    refine jm_get hx hb hts hown hK hP jm_f1 (by decide) jm_g1 dX6_power_31 ?_
    refine lv_iconst hx hb dX6_power_34 jx_ki2 ?_
    obtain ⟨j3, ej3, bj3, h⟩ := jx_ga_some h
    refine jm_iald hx hb hK hP jm_a1 ej3 bj3 dX6_power_35 ?_
    refine lv_bipush hx hb dX6_power_36 jx_kb6 ?_
    refine lv_icmp_ne (tgt := 45) hx hb dX6_power_38 rfl (fun c4 => ?_) (fun c4 => ?_)
    · rw [if_neg c4] at h
      refine lv_iconst hx hb dX6_power_45 jx_ki0 ?_
      exact jm_power_b46_ok hX F _ _ _ _ h _ _ _ hP hD hS hl
    · rw [if_pos c4] at h
      refine lv_iconst hx hb dX6_power_41 jx_ki1 ?_
      refine lv_goto (tgt := 46) hx hb dX6_power_42 rfl ?_
      exact jm_power_b46_ok hX F _ _ _ _ h _ _ _ hP hD hS hl
theorem jm_power_ok {out : Int32 × jm_S} (hX : jm_Ok p R s m args meth c A D ck ad sa cX6_power 4 (some .int) 1) (F : Nat) (x1 : Int32) (x2 : Int32) (S : jm_S) (h : jm_power F x1 x2 S = some out) : jm_J p l e R s m args below meth c A D ck ad 4 (jm_Qi below args s A D ck ad sa out) 0 [(0, .ref (ad 0)), (1, .int x1), (2, .int x2)] [] S := by
  intro H locs ls hP hD hS hl
  have hX0 := hX
  obtain ⟨hx, hb, hml, hown, hts, hlk, hr, hlv, hK, hZ⟩ := hX0
  unfold jm_power at h
  refine lv_aload_n hx hb dX6_power_0 rfl (lv_at hl 0 rfl) ?_
  refine lv_iconst hx hb dX6_power_1 jx_ki0 ?_
  obtain ⟨S1, eS1, h⟩ := jx_nx_some h
  refine jm_put hx hb hts hown hK hP hD hS eS1 jm_f0 (by decide) jm_n0 jm_d0 jm_p0 dX6_power_2 (fun H locs hP hD hS => ?_)
  refine lv_aload_n hx hb dX6_power_5 rfl (lv_at hl 0 rfl) ?_
  refine lv_iload_n hx hb dX6_power_6 rfl (lv_at hl 1 rfl) ?_
  refine lv_iconst hx hb dX6_power_7 jx_ki0 ?_
  refine lv_ldcw hx hb hown (hts _ q1984) dX6_power_8 ?_
  obtain ⟨q2, eq2, h⟩ := jx_bi_some h
  refine jx_callSi hx hb hml hown hts (jm_in_met eq2) jm_in_g_X6 jm_in_d (As := [.int x1, .int (nI 0), .int (65535 : Int32)]) (by rw [hlv]; decide) hl.1 rfl rfl (lv_room (Nat.le_of_ble_eq_true rfl)) dX6_power_11 (by rw [hlv]; exact ⟨Nat.zero_le _, Nat.zero_le _⟩) ?_
  refine lv_if_ne (tgt := 21) hx hb dX6_power_14 rfl (fun c3 => ?_) (fun c3 => ?_)
  · rw [if_neg c3] at h
    refine lv_iconst hx hb dX6_power_21 jx_ki0 ?_
    exact jm_power_b22_ok hX F _ _ _ _ h _ _ _ hP hD hS hl
  · rw [if_pos c3] at h
    refine lv_iconst hx hb dX6_power_17 jx_ki1 ?_
    refine lv_goto (tgt := 22) hx hb dX6_power_18 rfl ?_
    exact jm_power_b22_ok hX F _ _ _ _ h _ _ _ hP hD hS hl
theorem jm_power_met {l : Launch} {D : va_G} {ck : Nat → ClassId} {ad sa : Nat → Nat} {A : Nat → Prop} {F : Nat} {x1 : Int32} {x2 : Int32} {S : jm_S} {out : Int32 × jm_S} (h : jm_power F x1 x2 S = some out) : jm_Mi l D ck ad sa A yX6_power cX6_power 4 (some .int) 1 [.int x1, .int x2] S out :=
  jm_Mi_of ⟨by decide, rfl, Nat.le_of_ble_eq_true rfl⟩ (fun hX => jm_power_ok hX F x1 x2 S h)
theorem jm_harm_d : yX6_harm.cls = RX6 ∧ yX6_harm.cls ≠ "java/lang/invoke/MethodHandle" ∧ yX6_harm.cls ≠ "java/lang/invoke/VarHandle" ∧ (parseMethodDescriptor yX6_harm.desc).map (fun d => d.parameters.length) = some 1 := by decide +kernel
theorem jm_harm_b46_ok {out : Int32 × jm_S} (hX : jm_Ok p R s m args meth c A D ck ad sa cX6_harm 2 (some .int) 1) (F : Nat) (x1 : Int32) (k0 : Int32) (S : jm_S) (h : jm_harm_b46 F x1 k0 S = some out) : jm_J p l e R s m args below meth c A D ck ad 2 (jm_Qi below args s A D ck ad sa out) 46 [(0, .ref (ad 0)), (1, .int x1)] [.int k0, .ref (ad 0)] S := by
  intro H locs ls hP hD hS hl
  have hX0 := hX
  obtain ⟨hx, hb, hml, hown, hts, hlk, hr, hlv, hK, hZ⟩ := hX0
  unfold jm_harm_b46 at h
  refine lv_iconst hx hb dX6_harm_46 jx_ki2 ?_
  obtain ⟨q1, eq1, h⟩ := jx_bi_some h
  refine jm_callI hx hb hml hown hts hlv hK hZ (jm_throwsIf_met eq1) jm_throwsIf_g jm_throwsIf_d (As := [.int k0, .int (nI 2)]) (Nat.le_of_ble_eq_true rfl) (Nat.le_of_ble_eq_true rfl) hP hD hS hl.1 rfl rfl (lv_room (Nat.le_of_ble_eq_true rfl)) dX6_harm_47 (fun H locs hP hD hS => ?_)
  refine lv_if_eq (tgt := 55) hx hb dX6_harm_50 rfl (fun c2 => ?_) (fun c2 => ?_)
  · rw [if_pos c2] at h
    refine lv_aload_n hx hb dX6_harm_55 rfl (lv_at hl 0 rfl) ?_
    refine jm_get hx hb hts hown hK hP jm_f1 (by decide) jm_g1 dX6_harm_56 ?_
    refine lv_sipush hx hb dX6_harm_59 jx_ks404 ?_
    refine lv_aload_n hx hb dX6_harm_62 rfl (lv_at hl 0 rfl) ?_
    refine jm_get hx hb hts hown hK hP jm_f1 (by decide) jm_g1 dX6_harm_63 ?_
    refine lv_iconst hx hb dX6_harm_66 jx_ki3 ?_
    obtain ⟨j3, ej3, bj3, h⟩ := jx_ga_some h
    refine jm_iald hx hb hK hP jm_a1 ej3 bj3 dX6_harm_67 ?_
    refine lv_iadd hx hb dX6_harm_68 ?_
    refine lv_iload_n hx hb dX6_harm_69 rfl (lv_at hl 1 rfl) ?_
    obtain ⟨j4, ej4, bj4, h⟩ := jx_ga_some h
    obtain ⟨S5, eS5, h⟩ := jx_nx_some h
    refine jm_iast hx hb hK hP hD hS jm_a1 (fun f => jm_u1 f) ej4 bj4 eS5 dX6_harm_70 (fun H locs hP hD hS => ?_)
    refine lv_aload_n hx hb dX6_harm_71 rfl (lv_at hl 0 rfl) ?_
    refine jm_get hx hb hts hown hK hP jm_f1 (by decide) jm_g1 dX6_harm_72 ?_
    refine lv_iconst hx hb dX6_harm_75 jx_ki3 ?_
    refine lv_dup2_11 hx hb dX6_harm_76 rfl rfl ?_
    obtain ⟨j6, ej6, bj6, h⟩ := jx_ga_some h
    refine jm_iald hx hb hK hP jm_a1 ej6 bj6 dX6_harm_77 ?_
    refine lv_iconst hx hb dX6_harm_78 jx_ki1 ?_
    refine lv_iadd hx hb dX6_harm_79 ?_
    obtain ⟨j7, ej7, bj7, h⟩ := jx_ga_some h
    obtain ⟨S8, eS8, h⟩ := jx_nx_some h
    refine jm_iast hx hb hK hP hD hS jm_a1 (fun f => jm_u1 f) ej7 bj7 eS8 dX6_harm_80 (fun H locs hP hD hS => ?_)
    refine lv_aload_n hx hb dX6_harm_81 rfl (lv_at hl 0 rfl) ?_
    refine jm_get hx hb hts hown hK hP jm_f1 (by decide) jm_g1 dX6_harm_82 ?_
    refine lv_iconst hx hb dX6_harm_85 jx_ki3 ?_
    obtain ⟨j9, ej9, bj9, h⟩ := jx_ga_some h
    refine jm_iald hx hb hK hP jm_a1 ej9 bj9 dX6_harm_86 ?_
    refine lv_iconst hx hb dX6_harm_87 jx_ki1 ?_
    refine lv_isub hx hb dX6_harm_88 ?_
    exact jm_iret hx hb hr hlk hK hZ hP hD hS h dX6_harm_89
  · rw [if_neg c2] at h
    refine lv_iconst hx hb dX6_harm_53 jx_ki0 ?_
    exact jm_iret hx hb hr hlk hK hZ hP hD hS h dX6_harm_54
theorem jm_harm_b22_ok {out : Int32 × jm_S} (hX : jm_Ok p R s m args meth c A D ck ad sa cX6_harm 2 (some .int) 1) (F : Nat) (x1 : Int32) (k0 : Int32) (S : jm_S) (h : jm_harm_b22 F x1 k0 S = some out) : jm_J p l e R s m args below meth c A D ck ad 2 (jm_Qi below args s A D ck ad sa out) 22 [(0, .ref (ad 0)), (1, .int x1)] [.int k0, .ref (ad 0)] S := by
  intro H locs ls hP hD hS hl
  have hX0 := hX
  obtain ⟨hx, hb, hml, hown, hts, hlk, hr, hlv, hK, hZ⟩ := hX0
  unfold jm_harm_b22 at h
  refine lv_iconst hx hb dX6_harm_22 jx_ki1 ?_
  obtain ⟨q1, eq1, h⟩ := jx_bi_some h
  refine jm_callI hx hb hml hown hts hlv hK hZ (jm_throwsIf_met eq1) jm_throwsIf_g jm_throwsIf_d (As := [.int k0, .int (nI 1)]) (Nat.le_of_ble_eq_true rfl) (Nat.le_of_ble_eq_true rfl) hP hD hS hl.1 rfl rfl (lv_room (Nat.le_of_ble_eq_true rfl)) dX6_harm_23 (fun H locs hP hD hS => ?_)
  refine lv_if_ne (tgt := 53) hx hb dX6_harm_26 rfl (fun c2 => ?_) (fun c2 => ?_)
  · rw [if_neg c2] at h
    refine lv_iconst hx hb dX6_harm_53 jx_ki0 ?_
    exact jm_iret hx hb hr hlk hK hZ hP hD hS h dX6_harm_54
  · rw [if_pos c2] at h
    refine lv_aload_n hx hb dX6_harm_29 rfl (lv_at hl 0 rfl) ?_
    refine lv_aload_n hx hb dX6_harm_30 rfl (lv_at hl 0 rfl) ?_
    refine jm_get hx hb hts hown hK hP jm_f1 (by decide) jm_g1 dX6_harm_31 ?_
    refine lv_iconst hx hb dX6_harm_34 jx_ki3 ?_
    obtain ⟨j3, ej3, bj3, h⟩ := jx_ga_some h
    refine jm_iald hx hb hK hP jm_a1 ej3 bj3 dX6_harm_35 ?_
    refine lv_bipush hx hb dX6_harm_36 jx_kb8 ?_
    refine lv_icmp_ne (tgt := 45) hx hb dX6_harm_38 rfl (fun c4 => ?_) (fun c4 => ?_)
    · rw [if_neg c4] at h
      refine lv_iconst hx hb dX6_harm_45 jx_ki0 ?_
      exact jm_harm_b46_ok hX F _ _ _ h _ _ _ hP hD hS hl
    · rw [if_pos c4] at h
      refine lv_iconst hx hb dX6_harm_41 jx_ki1 ?_
      refine lv_goto (tgt := 46) hx hb dX6_harm_42 rfl ?_
      exact jm_harm_b46_ok hX F _ _ _ h _ _ _ hP hD hS hl
theorem jm_harm_ok {out : Int32 × jm_S} (hX : jm_Ok p R s m args meth c A D ck ad sa cX6_harm 2 (some .int) 1) (F : Nat) (x1 : Int32) (S : jm_S) (h : jm_harm F x1 S = some out) : jm_J p l e R s m args below meth c A D ck ad 2 (jm_Qi below args s A D ck ad sa out) 0 [(0, .ref (ad 0)), (1, .int x1)] [] S := by
  intro H locs ls hP hD hS hl
  have hX0 := hX
  obtain ⟨hx, hb, hml, hown, hts, hlk, hr, hlv, hK, hZ⟩ := hX0
  unfold jm_harm at h
  refine lv_aload_n hx hb dX6_harm_0 rfl (lv_at hl 0 rfl) ?_
  refine lv_iconst hx hb dX6_harm_1 jx_ki0 ?_
  obtain ⟨S1, eS1, h⟩ := jx_nx_some h
  refine jm_put hx hb hts hown hK hP hD hS eS1 jm_f0 (by decide) jm_n0 jm_d0 jm_p0 dX6_harm_2 (fun H locs hP hD hS => ?_)
  refine lv_aload_n hx hb dX6_harm_5 rfl (lv_at hl 0 rfl) ?_
  refine lv_iload_n hx hb dX6_harm_6 rfl (lv_at hl 1 rfl) ?_
  refine lv_iconst hx hb dX6_harm_7 jx_ki0 ?_
  refine lv_sipush hx hb dX6_harm_8 jx_ks999 ?_
  obtain ⟨q2, eq2, h⟩ := jx_bi_some h
  refine jx_callSi hx hb hml hown hts (jm_in_met eq2) jm_in_g_X6 jm_in_d (As := [.int x1, .int (nI 0), .int (nI 999)]) (by rw [hlv]; decide) hl.1 rfl rfl (lv_room (Nat.le_of_ble_eq_true rfl)) dX6_harm_11 (by rw [hlv]; exact ⟨Nat.zero_le _, Nat.zero_le _⟩) ?_
  refine lv_if_ne (tgt := 21) hx hb dX6_harm_14 rfl (fun c3 => ?_) (fun c3 => ?_)
  · rw [if_neg c3] at h
    refine lv_iconst hx hb dX6_harm_21 jx_ki0 ?_
    exact jm_harm_b22_ok hX F _ _ _ h _ _ _ hP hD hS hl
  · rw [if_pos c3] at h
    refine lv_iconst hx hb dX6_harm_17 jx_ki1 ?_
    refine lv_goto (tgt := 22) hx hb dX6_harm_18 rfl ?_
    exact jm_harm_b22_ok hX F _ _ _ h _ _ _ hP hD hS hl
theorem jm_harm_met {l : Launch} {D : va_G} {ck : Nat → ClassId} {ad sa : Nat → Nat} {A : Nat → Prop} {F : Nat} {x1 : Int32} {S : jm_S} {out : Int32 × jm_S} (h : jm_harm F x1 S = some out) : jm_Mi l D ck ad sa A yX6_harm cX6_harm 2 (some .int) 1 [.int x1] S out :=
  jm_Mi_of ⟨by decide, rfl, Nat.le_of_ble_eq_true rfl⟩ (fun hX => jm_harm_ok hX F x1 S h)
theorem jm_closedSet_d : yX6_closedSet.cls = RX6 ∧ yX6_closedSet.cls ≠ "java/lang/invoke/MethodHandle" ∧ yX6_closedSet.cls ≠ "java/lang/invoke/VarHandle" ∧ (parseMethodDescriptor yX6_closedSet.desc).map (fun d => d.parameters.length) = some 0 := by decide +kernel
theorem jm_closedSet_g : GoodIn lw_all (wsV RX6 376 RX6 yX6_closedSet (ws_ yX6_closedSet cX6_closedSet 5 (some .long))) := lw_V q2017 q2019 qs87 q110 q2020
theorem jm_closedSet_b56_ok {out : Int64 × jm_S} (hX : jm_Ok p R s m args meth c A D ck ad sa cX6_closedSet 5 (some .long) 1) (F : Nat) {r15 : Int64 × Int32 × jm_S → Option (Int64 × jm_S)} (hr15 : ∀ a, r15 a = some out → jm_J p l e R s m args below meth c A D ck ad 5 (jm_Ql below args s A D ck ad sa out) 15 [(0, .ref (ad 0)), (1, .long a.1), (3, .int a.2.1)] [] a.2.2) {r26 : Int64 × Int32 × Int32 × jm_S → Option (Int64 × jm_S)} (hr26 : ∀ a, r26 a = some out → jm_J p l e R s m args below meth c A D ck ad 5 (jm_Ql below args s A D ck ad sa out) 26 [(0, .ref (ad 0)), (1, .long a.1), (3, .int a.2.1), (4, .int a.2.2.1)] [] a.2.2.2) (x3 : Int32) (x4 : Int32) (k0 : Int64) (k1 : Int64) (S : jm_S) (h : jm_closedSet_b56 F r15 r26 x3 x4 k0 k1 S = some out) : jm_J p l e R s m args below meth c A D ck ad 5 (jm_Ql below args s A D ck ad sa out) 56 [(0, .ref (ad 0)), (3, .int x3), (4, .int x4)] [.long k0, .long k1] S := by
  intro H locs ls hP hD hS hl
  have hX0 := hX
  obtain ⟨hx, hb, hml, hown, hts, hlk, hr, hlv, hK, hZ⟩ := hX0
  unfold jm_closedSet_b56 at h
  refine lv_lor hx hb dX6_closedSet_56 ?_
  obtain ⟨y1, ey1, h⟩ := jx_nx_some h
  refine jx_topl ey1 ?_
  refine lv_lstore_n (lv' := [(1, .long y1), (0, .ref (ad 0)), (3, .int x3), (4, .int x4)]) hx hb dX6_closedSet_57 rfl hl (Nat.le_of_ble_eq_true rfl) rfl (fun ls hl => ?_)
  obtain ⟨y2, ey2, h⟩ := jx_nx_some h
  refine lv_iinc (v := y2) (lv' := [(4, .int y2), (1, .long y1), (0, .ref (ad 0)), (3, .int x3)]) hx hb dX6_closedSet_58 hl (k := 3) rfl (jx_inc jx_ki1 ey2) (Nat.le_of_ble_eq_true rfl) rfl (fun ls hl => ?_)
  refine lv_goto (tgt := 26) hx hb dX6_closedSet_61 rfl ?_
  exact hr26 _ h _ _ _ hP hD hS (lv_sub hl [2, 1, 3, 0] rfl)
theorem jm_closedSet_L26_ok {out : Int64 × jm_S} (hX : jm_Ok p R s m args meth c A D ck ad sa cX6_closedSet 5 (some .long) 1) (F : Nat) {r15 : Int64 × Int32 × jm_S → Option (Int64 × jm_S)} (hr15 : ∀ a, r15 a = some out → jm_J p l e R s m args below meth c A D ck ad 5 (jm_Ql below args s A D ck ad sa out) 15 [(0, .ref (ad 0)), (1, .long a.1), (3, .int a.2.1)] [] a.2.2) {r26 : Int64 × Int32 × Int32 × jm_S → Option (Int64 × jm_S)} (hr26 : ∀ a, r26 a = some out → jm_J p l e R s m args below meth c A D ck ad 5 (jm_Ql below args s A D ck ad sa out) 26 [(0, .ref (ad 0)), (1, .long a.1), (3, .int a.2.1), (4, .int a.2.2.1)] [] a.2.2.2) (x1 : Int64) (x3 : Int32) (x4 : Int32) (S : jm_S) (h : jm_closedSet_L26 F r15 r26 x1 x3 x4 S = some out) : jm_J p l e R s m args below meth c A D ck ad 5 (jm_Ql below args s A D ck ad sa out) 26 [(0, .ref (ad 0)), (1, .long x1), (3, .int x3), (4, .int x4)] [] S := by
  intro H locs ls hP hD hS hl
  have hX0 := hX
  obtain ⟨hx, hb, hml, hown, hts, hlk, hr, hlv, hK, hZ⟩ := hX0
  unfold jm_closedSet_L26 at h
  refine lv_iload hx hb dX6_closedSet_26 (lv_at hl 3 rfl) ?_
  refine lv_aload_n hx hb dX6_closedSet_28 rfl (lv_at hl 0 rfl) ?_
  obtain ⟨q1, eq1, h⟩ := jx_bi_some h
  refine jm_callI hx hb hml hown hts hlv hK hZ (jm_orders_met eq1) jm_orders_g jm_orders_d (As := []) (Nat.le_of_ble_eq_true rfl) (Nat.le_of_ble_eq_true rfl) hP hD hS hl.1 rfl rfl (lv_room (Nat.le_of_ble_eq_true rfl)) dX6_closedSet_29 (fun H locs hP hD hS => ?_)
  refine lv_icmp_ge (tgt := 64) hx hb dX6_closedSet_32 rfl (fun c2 => ?_) (fun c2 => ?_)
  · rw [if_pos c2] at h
    obtain ⟨y3, ey3, h⟩ := jx_nx_some h
    refine lv_iinc (v := y3) (lv' := [(3, .int y3), (0, .ref (ad 0)), (1, .long x1), (4, .int x4)]) hx hb dX6_closedSet_64 hl (k := 2) rfl (jx_inc jx_ki1 ey3) (Nat.le_of_ble_eq_true rfl) rfl (fun ls hl => ?_)
    refine lv_goto (tgt := 15) hx hb dX6_closedSet_67 rfl ?_
    exact hr15 _ h _ _ _ hP hD hS (lv_sub hl [1, 2, 0] rfl)
  · rw [if_neg c2] at h
    refine lv_lload_n hx hb dX6_closedSet_35 rfl (lv_at hl 1 rfl) ?_
    refine lv_lload_n hx hb dX6_closedSet_36 rfl (lv_at hl 1 rfl) ?_
    refine lv_iload hx hb dX6_closedSet_37 (lv_at hl 3 rfl) ?_
    obtain ⟨q4, eq4, h⟩ := jx_bi_some h
    refine jx_callSi hx hb hml hown hts (jm_has_met eq4) jm_has_g_X6 jm_has_d (As := [.long x1, .int x4]) (by rw [hlv]; decide) hl.1 rfl rfl (lv_room (Nat.le_of_ble_eq_true rfl)) dX6_closedSet_39 (by rw [hlv]; exact ⟨Nat.zero_le _, Nat.zero_le _⟩) ?_
    refine lv_if_eq (tgt := 55) hx hb dX6_closedSet_42 rfl (fun c5 => ?_) (fun c5 => ?_)
    · rw [if_pos c5] at h
      refine lv_lconst hx hb dX6_closedSet_55 jx_kl0 ?_
      exact jm_closedSet_b56_ok hX F hr15 hr26 _ _ _ _ _ h _ _ _ hP hD hS (lv_sub hl [0, 2, 3] rfl)
    · rw [if_neg c5] at h
      refine lv_aload_n hx hb dX6_closedSet_45 rfl (lv_at hl 0 rfl) ?_
      refine jm_get hx hb hts hown hK hP jm_f35 (by decide) jm_g35 dX6_closedSet_46 ?_
      refine lv_iload hx hb dX6_closedSet_49 (lv_at hl 3 rfl) ?_
      obtain ⟨j6, ej6, bj6, h⟩ := jx_ga_some h
      refine jm_lald hx hb hK hP jm_a35 ej6 bj6 dX6_closedSet_51 ?_
      refine lv_goto (tgt := 56) hx hb dX6_closedSet_52 rfl ?_
      exact jm_closedSet_b56_ok hX F hr15 hr26 _ _ _ _ _ h _ _ _ hP hD hS (lv_sub hl [0, 2, 3] rfl)
theorem jm_closedSet_h26_ok {out : Int64 × jm_S} (hX : jm_Ok p R s m args meth c A D ck ad sa cX6_closedSet 5 (some .long) 1) (F : Nat) {r15 : Int64 × Int32 × jm_S → Option (Int64 × jm_S)} (hr15 : ∀ a, r15 a = some out → jm_J p l e R s m args below meth c A D ck ad 5 (jm_Ql below args s A D ck ad sa out) 15 [(0, .ref (ad 0)), (1, .long a.1), (3, .int a.2.1)] [] a.2.2) (n : Nat) (a : Int64 × Int32 × Int32 × jm_S) (h : jm_closedSet_h26 F r15 n a = some out) : jm_J p l e R s m args below meth c A D ck ad 5 (jm_Ql below args s A D ck ad sa out) 26 [(0, .ref (ad 0)), (1, .long a.1), (3, .int a.2.1), (4, .int a.2.2.1)] [] a.2.2.2 :=
  jx_loop_ind (J := fun a => jm_J p l e R s m args below meth c A D ck ad 5 (jm_Ql below args s A D ck ad sa out) 26 [(0, .ref (ad 0)), (1, .long a.1), (3, .int a.2.1), (4, .int a.2.2.1)] [] a.2.2.2) (fun r hr a h => jm_closedSet_L26_ok hX F hr15 hr a.1 a.2.1 a.2.2.1 a.2.2.2 h) n a h
theorem jm_closedSet_L15_ok {out : Int64 × jm_S} (hX : jm_Ok p R s m args meth c A D ck ad sa cX6_closedSet 5 (some .long) 1) (F : Nat) {r15 : Int64 × Int32 × jm_S → Option (Int64 × jm_S)} (hr15 : ∀ a, r15 a = some out → jm_J p l e R s m args below meth c A D ck ad 5 (jm_Ql below args s A D ck ad sa out) 15 [(0, .ref (ad 0)), (1, .long a.1), (3, .int a.2.1)] [] a.2.2) (x1 : Int64) (x3 : Int32) (S : jm_S) (h : jm_closedSet_L15 F r15 x1 x3 S = some out) : jm_J p l e R s m args below meth c A D ck ad 5 (jm_Ql below args s A D ck ad sa out) 15 [(0, .ref (ad 0)), (1, .long x1), (3, .int x3)] [] S := by
  intro H locs ls hP hD hS hl
  have hX0 := hX
  obtain ⟨hx, hb, hml, hown, hts, hlk, hr, hlv, hK, hZ⟩ := hX0
  unfold jm_closedSet_L15 at h
  refine lv_iload_n hx hb dX6_closedSet_15 rfl (lv_at hl 2 rfl) ?_
  refine lv_aload_n hx hb dX6_closedSet_16 rfl (lv_at hl 0 rfl) ?_
  obtain ⟨q1, eq1, h⟩ := jx_bi_some h
  refine jm_callI hx hb hml hown hts hlv hK hZ (jm_orders_met eq1) jm_orders_g jm_orders_d (As := []) (Nat.le_of_ble_eq_true rfl) (Nat.le_of_ble_eq_true rfl) hP hD hS hl.1 rfl rfl (lv_room (Nat.le_of_ble_eq_true rfl)) dX6_closedSet_17 (fun H locs hP hD hS => ?_)
  refine lv_icmp_ge (tgt := 70) hx hb dX6_closedSet_20 rfl (fun c2 => ?_) (fun c2 => ?_)
  · rw [if_pos c2] at h
    refine lv_lload_n hx hb dX6_closedSet_70 rfl (lv_at hl 1 rfl) ?_
    exact jm_lret hx hb hr hlk hK hZ hP hD hS h dX6_closedSet_71
  · rw [if_neg c2] at h
    refine lv_iconst hx hb dX6_closedSet_23 jx_ki0 ?_
    obtain ⟨y3, ey3, h⟩ := jx_nx_some h
    refine jx_topi ey3 ?_
    refine lv_istore (lv' := [(4, .int y3), (0, .ref (ad 0)), (1, .long x1), (3, .int x3)]) hx hb dX6_closedSet_24 hl (Nat.le_of_ble_eq_true rfl) rfl (fun ls hl => ?_)
    exact jm_closedSet_h26_ok hX F hr15 F _ h _ _ _ hP hD hS (lv_sub hl [1, 2, 3, 0] rfl)
theorem jm_closedSet_h15_ok {out : Int64 × jm_S} (hX : jm_Ok p R s m args meth c A D ck ad sa cX6_closedSet 5 (some .long) 1) (F : Nat) (n : Nat) (a : Int64 × Int32 × jm_S) (h : jm_closedSet_h15 F n a = some out) : jm_J p l e R s m args below meth c A D ck ad 5 (jm_Ql below args s A D ck ad sa out) 15 [(0, .ref (ad 0)), (1, .long a.1), (3, .int a.2.1)] [] a.2.2 :=
  jx_loop_ind (J := fun a => jm_J p l e R s m args below meth c A D ck ad 5 (jm_Ql below args s A D ck ad sa out) 15 [(0, .ref (ad 0)), (1, .long a.1), (3, .int a.2.1)] [] a.2.2) (fun r hr a h => jm_closedSet_L15_ok hX F hr a.1 a.2.1 a.2.2 h) n a h
theorem jm_closedSet_b12_ok {out : Int64 × jm_S} (hX : jm_Ok p R s m args meth c A D ck ad sa cX6_closedSet 5 (some .long) 1) (F : Nat) (k0 : Int64) (S : jm_S) (h : jm_closedSet_b12 F k0 S = some out) : jm_J p l e R s m args below meth c A D ck ad 5 (jm_Ql below args s A D ck ad sa out) 12 [(0, .ref (ad 0))] [.long k0] S := by
  intro H locs ls hP hD hS hl
  have hX0 := hX
  obtain ⟨hx, hb, hml, hown, hts, hlk, hr, hlv, hK, hZ⟩ := hX0
  unfold jm_closedSet_b12 at h
  refine lv_lstore_n (lv' := [(1, .long k0), (0, .ref (ad 0))]) hx hb dX6_closedSet_12 rfl hl (Nat.le_of_ble_eq_true rfl) rfl (fun ls hl => ?_)
  refine lv_iconst hx hb dX6_closedSet_13 jx_ki0 ?_
  obtain ⟨y1, ey1, h⟩ := jx_nx_some h
  refine jx_topi ey1 ?_
  refine lv_istore_n (lv' := [(3, .int y1), (1, .long k0), (0, .ref (ad 0))]) hx hb dX6_closedSet_14 rfl hl (Nat.le_of_ble_eq_true rfl) rfl (fun ls hl => ?_)
  exact jm_closedSet_h15_ok hX F F _ h _ _ _ hP hD hS (lv_sub hl [2, 1, 0] rfl)
theorem jm_closedSet_ok {out : Int64 × jm_S} (hX : jm_Ok p R s m args meth c A D ck ad sa cX6_closedSet 5 (some .long) 1) (F : Nat)  (S : jm_S) (h : jm_closedSet F  S = some out) : jm_J p l e R s m args below meth c A D ck ad 5 (jm_Ql below args s A D ck ad sa out) 0 [(0, .ref (ad 0))] [] S := by
  intro H locs ls hP hD hS hl
  have hX0 := hX
  obtain ⟨hx, hb, hml, hown, hts, hlk, hr, hlv, hK, hZ⟩ := hX0
  unfold jm_closedSet at h
  refine lv_aload_n hx hb dX6_closedSet_0 rfl (lv_at hl 0 rfl) ?_
  obtain ⟨q1, eq1, h⟩ := jx_bi_some h
  refine jm_callI hx hb hml hown hts hlv hK hZ (jm_orders_met eq1) jm_orders_g jm_orders_d (As := []) (Nat.le_of_ble_eq_true rfl) (Nat.le_of_ble_eq_true rfl) hP hD hS hl.1 rfl rfl (lv_room (Nat.le_of_ble_eq_true rfl)) dX6_closedSet_1 (fun H locs hP hD hS => ?_)
  refine lv_if_ne (tgt := 11) hx hb dX6_closedSet_4 rfl (fun c2 => ?_) (fun c2 => ?_)
  · rw [if_neg c2] at h
    refine lv_lconst hx hb dX6_closedSet_11 jx_kl1 ?_
    exact jm_closedSet_b12_ok hX F _ _ h _ _ _ hP hD hS hl
  · rw [if_pos c2] at h
    refine lv_lconst hx hb dX6_closedSet_7 jx_kl0 ?_
    refine lv_goto (tgt := 12) hx hb dX6_closedSet_8 rfl ?_
    exact jm_closedSet_b12_ok hX F _ _ h _ _ _ hP hD hS hl
theorem jm_closedSet_met {l : Launch} {D : va_G} {ck : Nat → ClassId} {ad sa : Nat → Nat} {A : Nat → Prop} {F : Nat}  {S : jm_S} {out : Int64 × jm_S} (h : jm_closedSet F  S = some out) : jm_Ml l D ck ad sa A yX6_closedSet cX6_closedSet 5 (some .long) 1 [] S out :=
  jm_Ml_of ⟨by decide, rfl, Nat.le_of_ble_eq_true rfl⟩ (fun hX => jm_closedSet_ok hX F  S h)
theorem jm_gradesNow_d : yX6_gradesNow.cls = RX6 ∧ yX6_gradesNow.cls ≠ "java/lang/invoke/MethodHandle" ∧ yX6_gradesNow.cls ≠ "java/lang/invoke/VarHandle" ∧ (parseMethodDescriptor yX6_gradesNow.desc).map (fun d => d.parameters.length) = some 0 := by decide +kernel
theorem jm_gradesNow_g : GoodIn lw_all (wsV RX6 370 RX6 yX6_gradesNow (ws_ yX6_gradesNow cX6_gradesNow 2 none)) := lw_V q1997 q1999 qs82 q110 q2000
theorem jm_gradesNow_L2_ok {out : jm_S} (hX : jm_Ok p R s m args meth c A D ck ad sa cX6_gradesNow 2 none 1) (F : Nat) {r2 : Int32 × jm_S → Option (jm_S)} (hr2 : ∀ a, r2 a = some out → jm_J p l e R s m args below meth c A D ck ad 2 (jm_Qv below args s A D ck ad sa out) 2 [(0, .ref (ad 0)), (1, .int a.1)] [] a.2) (x1 : Int32) (S : jm_S) (h : jm_gradesNow_L2 F r2 x1 S = some out) : jm_J p l e R s m args below meth c A D ck ad 2 (jm_Qv below args s A D ck ad sa out) 2 [(0, .ref (ad 0)), (1, .int x1)] [] S := by
  intro H locs ls hP hD hS hl
  have hX0 := hX
  obtain ⟨hx, hb, hml, hown, hts, hlk, hr, hlv, hK, hZ⟩ := hX0
  unfold jm_gradesNow_L2 at h
  refine lv_iload_n hx hb dX6_gradesNow_2 rfl (lv_at hl 1 rfl) ?_
  refine lv_aload_n hx hb dX6_gradesNow_3 rfl (lv_at hl 0 rfl) ?_
  obtain ⟨q1, eq1, h⟩ := jx_bi_some h
  refine jm_callI hx hb hml hown hts hlv hK hZ (jm_orders_met eq1) jm_orders_g jm_orders_d (As := []) (Nat.le_of_ble_eq_true rfl) (Nat.le_of_ble_eq_true rfl) hP hD hS hl.1 rfl rfl (lv_room (Nat.le_of_ble_eq_true rfl)) dX6_gradesNow_4 (fun H locs hP hD hS => ?_)
  refine lv_icmp_ge (tgt := 28) hx hb dX6_gradesNow_7 rfl (fun c2 => ?_) (fun c2 => ?_)
  · rw [if_pos c2] at h
    exact jm_vret hx hb hr hlk hK hZ hP hD hS h dX6_gradesNow_28
  · rw [if_neg c2] at h
    refine lv_aload_n hx hb dX6_gradesNow_10 rfl (lv_at hl 0 rfl) ?_
    refine jm_get hx hb hts hown hK hP jm_f34 (by decide) jm_g34 dX6_gradesNow_11 ?_
    refine lv_iload_n hx hb dX6_gradesNow_14 rfl (lv_at hl 1 rfl) ?_
    refine lv_aload_n hx hb dX6_gradesNow_15 rfl (lv_at hl 0 rfl) ?_
    refine lv_iload_n hx hb dX6_gradesNow_16 rfl (lv_at hl 1 rfl) ?_
    refine lv_iconst hx hb dX6_gradesNow_17 jx_ki2 ?_
    obtain ⟨q3, eq3, h⟩ := jx_bi_some h
    refine jm_callI hx hb hml hown hts hlv hK hZ (jm_of_met eq3) jm_of_g jm_of_d (As := [.int x1, .int (nI 2)]) (Nat.le_of_ble_eq_true rfl) (Nat.le_of_ble_eq_true rfl) hP hD hS hl.1 rfl rfl (lv_room (Nat.le_of_ble_eq_true rfl)) dX6_gradesNow_18 (fun H locs hP hD hS => ?_)
    obtain ⟨j4, ej4, bj4, h⟩ := jx_ga_some h
    obtain ⟨S5, eS5, h⟩ := jx_nx_some h
    refine jm_iast hx hb hK hP hD hS jm_a34 (fun f => jm_u34 f) ej4 bj4 eS5 dX6_gradesNow_21 (fun H locs hP hD hS => ?_)
    obtain ⟨y6, ey6, h⟩ := jx_nx_some h
    refine lv_iinc (v := y6) (lv' := [(1, .int y6), (0, .ref (ad 0))]) hx hb dX6_gradesNow_22 hl (k := 1) rfl (jx_inc jx_ki1 ey6) (Nat.le_of_ble_eq_true rfl) rfl (fun ls hl => ?_)
    refine lv_goto (tgt := 2) hx hb dX6_gradesNow_25 rfl ?_
    exact hr2 _ h _ _ _ hP hD hS (lv_sub hl [1, 0] rfl)
theorem jm_gradesNow_h2_ok {out : jm_S} (hX : jm_Ok p R s m args meth c A D ck ad sa cX6_gradesNow 2 none 1) (F : Nat) (n : Nat) (a : Int32 × jm_S) (h : jm_gradesNow_h2 F n a = some out) : jm_J p l e R s m args below meth c A D ck ad 2 (jm_Qv below args s A D ck ad sa out) 2 [(0, .ref (ad 0)), (1, .int a.1)] [] a.2 :=
  jx_loop_ind (J := fun a => jm_J p l e R s m args below meth c A D ck ad 2 (jm_Qv below args s A D ck ad sa out) 2 [(0, .ref (ad 0)), (1, .int a.1)] [] a.2) (fun r hr a h => jm_gradesNow_L2_ok hX F hr a.1 a.2 h) n a h
theorem jm_gradesNow_ok {out : jm_S} (hX : jm_Ok p R s m args meth c A D ck ad sa cX6_gradesNow 2 none 1) (F : Nat)  (S : jm_S) (h : jm_gradesNow F  S = some out) : jm_J p l e R s m args below meth c A D ck ad 2 (jm_Qv below args s A D ck ad sa out) 0 [(0, .ref (ad 0))] [] S := by
  intro H locs ls hP hD hS hl
  have hX0 := hX
  obtain ⟨hx, hb, hml, hown, hts, hlk, hr, hlv, hK, hZ⟩ := hX0
  unfold jm_gradesNow at h
  refine lv_iconst hx hb dX6_gradesNow_0 jx_ki0 ?_
  obtain ⟨y1, ey1, h⟩ := jx_nx_some h
  refine jx_topi ey1 ?_
  refine lv_istore_n (lv' := [(1, .int y1), (0, .ref (ad 0))]) hx hb dX6_gradesNow_1 rfl hl (Nat.le_of_ble_eq_true rfl) rfl (fun ls hl => ?_)
  exact jm_gradesNow_h2_ok hX F F _ h _ _ _ hP hD hS (lv_sub hl [1, 0] rfl)
theorem jm_gradesNow_met {l : Launch} {D : va_G} {ck : Nat → ClassId} {ad sa : Nat → Nat} {A : Nat → Prop} {F : Nat}  {S : jm_S} {out : jm_S} (h : jm_gradesNow F  S = some out) : jm_Mv l D ck ad sa A yX6_gradesNow cX6_gradesNow 2 none 1 [] S out :=
  jm_Mv_of ⟨by decide, rfl, Nat.le_of_ble_eq_true rfl⟩ (fun hX => jm_gradesNow_ok hX F  S h)
theorem jm_noPower_d : yX6_noPower.cls = RX6 ∧ yX6_noPower.cls ≠ "java/lang/invoke/MethodHandle" ∧ yX6_noPower.cls ≠ "java/lang/invoke/VarHandle" ∧ (parseMethodDescriptor yX6_noPower.desc).map (fun d => d.parameters.length) = some 1 := by decide +kernel
theorem jm_noPower_g : GoodIn lw_all (wsV RX6 367 RX6 yX6_noPower (ws_ yX6_noPower cX6_noPower 2 (some .boolean))) := lw_V q1993 q1995 qs81 q110 q1996
theorem jm_noPower_ok {out : Int32 × jm_S} (hX : jm_Ok p R s m args meth c A D ck ad sa cX6_noPower 2 (some .boolean) 1) (F : Nat) (x1 : Int32) (S : jm_S) (h : jm_noPower F x1 S = some out) : jm_J p l e R s m args below meth c A D ck ad 2 (jm_Qi below args s A D ck ad sa out) 0 [(0, .ref (ad 0)), (1, .int x1)] [] S := by
  intro H locs ls hP hD hS hl
  have hX0 := hX
  obtain ⟨hx, hb, hml, hown, hts, hlk, hr, hlv, hK, hZ⟩ := hX0
  unfold jm_noPower at h
  refine lv_iload_n hx hb dX6_noPower_0 rfl (lv_at hl 1 rfl) ?_
  refine lv_iconst hx hb dX6_noPower_1 jx_ki0 ?_
  refine lv_aload_n hx hb dX6_noPower_2 rfl (lv_at hl 0 rfl) ?_
  refine jm_get hx hb hts hown hK hP jm_f1 (by decide) jm_g1 dX6_noPower_3 ?_
  refine lv_iconst hx hb dX6_noPower_6 jx_ki2 ?_
  obtain ⟨j1, ej1, bj1, h⟩ := jx_ga_some h
  refine jm_iald hx hb hK hP jm_a1 ej1 bj1 dX6_noPower_7 ?_
  refine lv_iconst hx hb dX6_noPower_8 jx_ki1 ?_
  refine lv_isub hx hb dX6_noPower_9 ?_
  obtain ⟨q2, eq2, h⟩ := jx_bi_some h
  refine jx_callSi hx hb hml hown hts (jm_in_met eq2) jm_in_g_X6 jm_in_d (As := [.int x1, .int (nI 0), .int ((S.2.1 1 j1) - (nI 1))]) (by rw [hlv]; decide) hl.1 rfl rfl (lv_room (Nat.le_of_ble_eq_true rfl)) dX6_noPower_10 (by rw [hlv]; exact ⟨Nat.zero_le _, Nat.zero_le _⟩) ?_
  refine lv_if_ne (tgt := 20) hx hb dX6_noPower_13 rfl (fun c3 => ?_) (fun c3 => ?_)
  · rw [if_neg c3] at h
    refine lv_iconst hx hb dX6_noPower_20 jx_ki0 ?_
    exact jm_zret hx hb hr hlk hK hZ hP hD hS jx_nz0 h dX6_noPower_21
  · rw [if_pos c3] at h
    refine lv_iconst hx hb dX6_noPower_16 jx_ki1 ?_
    refine lv_goto (tgt := 21) hx hb dX6_noPower_17 rfl ?_
    exact jm_zret hx hb hr hlk hK hZ hP hD hS jx_nz1 h dX6_noPower_21
theorem jm_noPower_met {l : Launch} {D : va_G} {ck : Nat → ClassId} {ad sa : Nat → Nat} {A : Nat → Prop} {F : Nat} {x1 : Int32} {S : jm_S} {out : Int32 × jm_S} (h : jm_noPower F x1 S = some out) : jm_Mi l D ck ad sa A yX6_noPower cX6_noPower 2 (some .boolean) 1 [.int x1] S out :=
  jm_Mi_of ⟨by decide, rfl, Nat.le_of_ble_eq_true rfl⟩ (fun hX => jm_noPower_ok hX F x1 S h)
theorem jm_bendsCell_d : yX6_bendsCell.cls = RX6 ∧ yX6_bendsCell.cls ≠ "java/lang/invoke/MethodHandle" ∧ yX6_bendsCell.cls ≠ "java/lang/invoke/VarHandle" ∧ (parseMethodDescriptor yX6_bendsCell.desc).map (fun d => d.parameters.length) = some 2 := by decide +kernel
theorem jm_bendsCell_g : GoodIn lw_all (wsV RX6 358 RX6 yX6_bendsCell (ws_ yX6_bendsCell cX6_bendsCell 3 (some .boolean))) := lw_V q2013 q2015 qs86 q110 q2016
theorem jm_bendsCell_ok {out : Int32 × jm_S} (hX : jm_Ok p R s m args meth c A D ck ad sa cX6_bendsCell 3 (some .boolean) 0) (F : Nat) (x1 : Int32) (x2 : Int32) (S : jm_S) (h : jm_bendsCell F x1 x2 S = some out) : jm_J p l e R s m args below meth c A D ck ad 3 (jm_Qi below args s A D ck ad sa out) 0 [(0, .ref (ad 0)), (1, .int x1), (2, .int x2)] [] S := by
  intro H locs ls hP hD hS hl
  have hX0 := hX
  obtain ⟨hx, hb, hml, hown, hts, hlk, hr, hlv, hK, hZ⟩ := hX0
  unfold jm_bendsCell at h
  refine lv_aload_n hx hb dX6_bendsCell_0 rfl (lv_at hl 0 rfl) ?_
  refine jm_get hx hb hts hown hK hP jm_f1 (by decide) jm_g1 dX6_bendsCell_1 ?_
  refine lv_sipush hx hb dX6_bendsCell_4 jx_ks392 ?_
  refine lv_iconst hx hb dX6_bendsCell_7 jx_ki2 ?_
  refine lv_iload_n hx hb dX6_bendsCell_8 rfl (lv_at hl 1 rfl) ?_
  refine lv_imul hx hb dX6_bendsCell_9 ?_
  refine lv_iadd hx hb dX6_bendsCell_10 ?_
  obtain ⟨j1, ej1, bj1, h⟩ := jx_ga_some h
  refine jm_iald hx hb hK hP jm_a1 ej1 bj1 dX6_bendsCell_11 ?_
  refine lv_iload_n hx hb dX6_bendsCell_12 rfl (lv_at hl 2 rfl) ?_
  refine lv_ishr hx hb dX6_bendsCell_13 ?_
  refine lv_iconst hx hb dX6_bendsCell_14 jx_ki1 ?_
  refine lv_iand hx hb dX6_bendsCell_15 ?_
  refine lv_iconst hx hb dX6_bendsCell_16 jx_ki1 ?_
  refine lv_icmp_ne (tgt := 24) hx hb dX6_bendsCell_17 rfl (fun c2 => ?_) (fun c2 => ?_)
  · rw [if_neg c2] at h
    refine lv_iconst hx hb dX6_bendsCell_24 jx_ki0 ?_
    exact jm_zret hx hb hr hlk hK hZ hP hD hS jx_nz0 h dX6_bendsCell_25
  · rw [if_pos c2] at h
    refine lv_iconst hx hb dX6_bendsCell_20 jx_ki1 ?_
    refine lv_goto (tgt := 25) hx hb dX6_bendsCell_21 rfl ?_
    exact jm_zret hx hb hr hlk hK hZ hP hD hS jx_nz1 h dX6_bendsCell_25
theorem jm_bendsCell_met {l : Launch} {D : va_G} {ck : Nat → ClassId} {ad sa : Nat → Nat} {A : Nat → Prop} {F : Nat} {x1 : Int32} {x2 : Int32} {S : jm_S} {out : Int32 × jm_S} (h : jm_bendsCell F x1 x2 S = some out) : jm_Mi l D ck ad sa A yX6_bendsCell cX6_bendsCell 3 (some .boolean) 0 [.int x1, .int x2] S out :=
  jm_Mi_of ⟨by decide, rfl, Nat.le_of_ble_eq_true rfl⟩ (fun hX => jm_bendsCell_ok hX F x1 x2 S h)
theorem jm_bendsRow_d : yX6_bendsRow.cls = RX6 ∧ yX6_bendsRow.cls ≠ "java/lang/invoke/MethodHandle" ∧ yX6_bendsRow.cls ≠ "java/lang/invoke/VarHandle" ∧ (parseMethodDescriptor yX6_bendsRow.desc).map (fun d => d.parameters.length) = some 1 := by decide +kernel
theorem jm_bendsRow_g : GoodIn lw_all (wsV RX6 361 RX6 yX6_bendsRow (ws_ yX6_bendsRow cX6_bendsRow 2 (some .boolean))) := lw_V q2009 q2011 qs85 q110 q2012
theorem jm_bendsRow_ok {out : Int32 × jm_S} (hX : jm_Ok p R s m args meth c A D ck ad sa cX6_bendsRow 2 (some .boolean) 0) (F : Nat) (x1 : Int32) (S : jm_S) (h : jm_bendsRow F x1 S = some out) : jm_J p l e R s m args below meth c A D ck ad 2 (jm_Qi below args s A D ck ad sa out) 0 [(0, .ref (ad 0)), (1, .int x1)] [] S := by
  intro H locs ls hP hD hS hl
  have hX0 := hX
  obtain ⟨hx, hb, hml, hown, hts, hlk, hr, hlv, hK, hZ⟩ := hX0
  unfold jm_bendsRow at h
  refine lv_aload_n hx hb dX6_bendsRow_0 rfl (lv_at hl 0 rfl) ?_
  refine jm_get hx hb hts hown hK hP jm_f1 (by decide) jm_g1 dX6_bendsRow_1 ?_
  refine lv_sipush hx hb dX6_bendsRow_4 jx_ks392 ?_
  refine lv_iconst hx hb dX6_bendsRow_7 jx_ki2 ?_
  refine lv_iload_n hx hb dX6_bendsRow_8 rfl (lv_at hl 1 rfl) ?_
  refine lv_imul hx hb dX6_bendsRow_9 ?_
  refine lv_iadd hx hb dX6_bendsRow_10 ?_
  refine lv_iconst hx hb dX6_bendsRow_11 jx_ki1 ?_
  refine lv_iadd hx hb dX6_bendsRow_12 ?_
  obtain ⟨j1, ej1, bj1, h⟩ := jx_ga_some h
  refine jm_iald hx hb hK hP jm_a1 ej1 bj1 dX6_bendsRow_13 ?_
  refine lv_iconst hx hb dX6_bendsRow_14 jx_ki1 ?_
  refine lv_icmp_ne (tgt := 22) hx hb dX6_bendsRow_15 rfl (fun c2 => ?_) (fun c2 => ?_)
  · rw [if_neg c2] at h
    refine lv_iconst hx hb dX6_bendsRow_22 jx_ki0 ?_
    exact jm_zret hx hb hr hlk hK hZ hP hD hS jx_nz0 h dX6_bendsRow_23
  · rw [if_pos c2] at h
    refine lv_iconst hx hb dX6_bendsRow_18 jx_ki1 ?_
    refine lv_goto (tgt := 23) hx hb dX6_bendsRow_19 rfl ?_
    exact jm_zret hx hb hr hlk hK hZ hP hD hS jx_nz1 h dX6_bendsRow_23
theorem jm_bendsRow_met {l : Launch} {D : va_G} {ck : Nat → ClassId} {ad sa : Nat → Nat} {A : Nat → Prop} {F : Nat} {x1 : Int32} {S : jm_S} {out : Int32 × jm_S} (h : jm_bendsRow F x1 S = some out) : jm_Mi l D ck ad sa A yX6_bendsRow cX6_bendsRow 2 (some .boolean) 0 [.int x1] S out :=
  jm_Mi_of ⟨by decide, rfl, Nat.le_of_ble_eq_true rfl⟩ (fun hX => jm_bendsRow_ok hX F x1 S h)
theorem jm_mayFrom_d : yX6_mayFrom.cls = RX6 ∧ yX6_mayFrom.cls ≠ "java/lang/invoke/MethodHandle" ∧ yX6_mayFrom.cls ≠ "java/lang/invoke/VarHandle" ∧ (parseMethodDescriptor yX6_mayFrom.desc).map (fun d => d.parameters.length) = some 2 := by decide +kernel
theorem jm_mayFrom_g : GoodIn lw_all (wsV RX6 364 RX6 yX6_mayFrom (ws_ yX6_mayFrom cX6_mayFrom 11 (some .long))) := lw_V q2005 q2007 qs84 q110 q2008
theorem jm_mayFrom_b93_ok {out : Int64 × jm_S} (hX : jm_Ok p R s m args meth c A D ck ad sa cX6_mayFrom 11 (some .long) 4) (F : Nat) (x1 : Int32) (x4 : Int64) (x6 : Int64) (k0 : Int32) (S : jm_S) (h : jm_mayFrom_b93 F x1 x4 x6 k0 S = some out) : jm_J p l e R s m args below meth c A D ck ad 11 (jm_Ql below args s A D ck ad sa out) 93 [(0, .ref (ad 0)), (1, .int x1), (4, .long x4), (6, .long x6)] [.int k0] S := by
  intro H locs ls hP hD hS hl
  have hX0 := hX
  obtain ⟨hx, hb, hml, hown, hts, hlk, hr, hlv, hK, hZ⟩ := hX0
  unfold jm_mayFrom_b93 at h
  refine lv_istore (lv' := [(8, .int k0), (0, .ref (ad 0)), (1, .int x1), (4, .long x4), (6, .long x6)]) hx hb dX6_mayFrom_93 hl (Nat.le_of_ble_eq_true rfl) rfl (fun ls hl => ?_)
  refine lv_iload hx hb dX6_mayFrom_95 (lv_at hl 0 rfl) ?_
  refine lv_if_ne (tgt := 108) hx hb dX6_mayFrom_97 rfl (fun c1 => ?_) (fun c1 => ?_)
  · rw [if_neg c1] at h
    refine lv_aload_n hx hb dX6_mayFrom_108 rfl (lv_at hl 1 rfl) ?_
    refine lv_iload_n hx hb dX6_mayFrom_109 rfl (lv_at hl 2 rfl) ?_
    obtain ⟨q2, eq2, h⟩ := jx_bi_some h
    refine jm_callI hx hb hml hown hts hlv hK hZ (jm_isSo_met eq2) jm_isSo_g jm_isSo_d (As := [.int x1]) (Nat.le_of_ble_eq_true rfl) (Nat.le_of_ble_eq_true rfl) hP hD hS hl.1 rfl rfl (lv_room (Nat.le_of_ble_eq_true rfl)) dX6_mayFrom_110 (fun H locs hP hD hS => ?_)
    refine lv_if_eq (tgt := 121) hx hb dX6_mayFrom_113 rfl (fun c3 => ?_) (fun c3 => ?_)
    · rw [if_pos c3] at h
      refine lv_lload hx hb dX6_mayFrom_121 (lv_at hl 3 rfl) ?_
      exact jm_lret hx hb hr hlk hK hZ hP hD hS h dX6_mayFrom_123
    · rw [if_neg c3] at h
      refine lv_lload hx hb dX6_mayFrom_116 (lv_at hl 4 rfl) ?_
      refine lv_goto (tgt := 123) hx hb dX6_mayFrom_118 rfl ?_
      exact jm_lret hx hb hr hlk hK hZ hP hD hS h dX6_mayFrom_123
  · rw [if_pos c1] at h
    refine lv_lload hx hb dX6_mayFrom_100 (lv_at hl 3 rfl) ?_
    refine lv_lload hx hb dX6_mayFrom_102 (lv_at hl 4 rfl) ?_
    refine lv_lor hx hb dX6_mayFrom_104 ?_
    refine lv_goto (tgt := 123) hx hb dX6_mayFrom_105 rfl ?_
    exact jm_lret hx hb hr hlk hK hZ hP hD hS h dX6_mayFrom_123
theorem jm_mayFrom_b92_ok {out : Int64 × jm_S} (hX : jm_Ok p R s m args meth c A D ck ad sa cX6_mayFrom 11 (some .long) 4) (F : Nat) (x1 : Int32) (x4 : Int64) (x6 : Int64) (S : jm_S) (h : jm_mayFrom_b92 F x1 x4 x6 S = some out) : jm_J p l e R s m args below meth c A D ck ad 11 (jm_Ql below args s A D ck ad sa out) 92 [(0, .ref (ad 0)), (1, .int x1), (4, .long x4), (6, .long x6)] [] S := by
  intro H locs ls hP hD hS hl
  have hX0 := hX
  obtain ⟨hx, hb, hml, hown, hts, hlk, hr, hlv, hK, hZ⟩ := hX0
  unfold jm_mayFrom_b92 at h
  refine lv_iconst hx hb dX6_mayFrom_92 jx_ki0 ?_
  exact jm_mayFrom_b93_ok hX F _ _ _ _ _ h _ _ _ hP hD hS hl
theorem jm_mayFrom_b177_ok {out : Int64 × jm_S} (hX : jm_Ok p R s m args meth c A D ck ad sa cX6_mayFrom 11 (some .long) 4) (F : Nat) (x8 : Int64) (S : jm_S) (h : jm_mayFrom_b177 F x8 S = some out) : jm_J p l e R s m args below meth c A D ck ad 11 (jm_Ql below args s A D ck ad sa out) 177 [(0, .ref (ad 0)), (8, .long x8)] [] S := by
  intro H locs ls hP hD hS hl
  have hX0 := hX
  obtain ⟨hx, hb, hml, hown, hts, hlk, hr, hlv, hK, hZ⟩ := hX0
  unfold jm_mayFrom_b177 at h
  refine lv_aload_n hx hb dX6_mayFrom_177 rfl (lv_at hl 0 rfl) ?_
  obtain ⟨q1, eq1, h⟩ := jx_bi_some h
  refine jm_callL hx hb hml hown hts hlv hK hZ (jm_behind_met eq1) jm_behind_g jm_behind_d (As := []) (Nat.le_of_ble_eq_true rfl) (Nat.le_of_ble_eq_true rfl) hP hD hS hl.1 rfl rfl (lv_room (Nat.le_of_ble_eq_true rfl)) dX6_mayFrom_178 (fun H locs hP hD hS => ?_)
  refine lv_lload hx hb dX6_mayFrom_181 (lv_at hl 1 rfl) ?_
  refine lv_land hx hb dX6_mayFrom_183 ?_
  exact jm_lret hx hb hr hlk hK hZ hP hD hS h dX6_mayFrom_184
theorem jm_mayFrom_b34_ok {out : Int64 × jm_S} (hX : jm_Ok p R s m args meth c A D ck ad sa cX6_mayFrom 11 (some .long) 4) (F : Nat) (x1 : Int32) (x2 : Int32) (x3 : Int32) (x4 : Int64) (k0 : Int64) (S : jm_S) (h : jm_mayFrom_b34 F x1 x2 x3 x4 k0 S = some out) : jm_J p l e R s m args below meth c A D ck ad 11 (jm_Ql below args s A D ck ad sa out) 34 [(0, .ref (ad 0)), (1, .int x1), (2, .int x2), (3, .int x3), (4, .long x4)] [.long k0] S := by
  intro H locs ls hP hD hS hl
  have hX0 := hX
  obtain ⟨hx, hb, hml, hown, hts, hlk, hr, hlv, hK, hZ⟩ := hX0
  unfold jm_mayFrom_b34 at h
  refine lv_lstore (lv' := [(6, .long k0), (0, .ref (ad 0)), (1, .int x1), (2, .int x2), (3, .int x3), (4, .long x4)]) hx hb dX6_mayFrom_34 hl (Nat.le_of_ble_eq_true rfl) rfl (fun ls hl => ?_)
  refine lv_iload_n hx hb dX6_mayFrom_36 rfl (lv_at hl 4 rfl) ?_
  refine lv_bipush hx hb dX6_mayFrom_37 jx_kb9 ?_
  refine lv_icmp_ne (tgt := 44) hx hb dX6_mayFrom_39 rfl (fun c1 => ?_) (fun c1 => ?_)
  · rw [if_neg c1] at h
    refine lv_iload_n hx hb dX6_mayFrom_44 rfl (lv_at hl 4 rfl) ?_
    refine lv_iconst hx hb dX6_mayFrom_45 jx_ki2 ?_
    refine lv_icmp_eq (tgt := 54) hx hb dX6_mayFrom_46 rfl (fun c2 => ?_) (fun c2 => ?_)
    · rw [if_pos c2] at h
      refine lv_lload hx hb dX6_mayFrom_54 (lv_at hl 0 rfl) ?_
      exact jm_lret hx hb hr hlk hK hZ hP hD hS h dX6_mayFrom_56
    · rw [if_neg c2] at h
      refine lv_iload_n hx hb dX6_mayFrom_49 rfl (lv_at hl 4 rfl) ?_
      refine lv_iconst hx hb dX6_mayFrom_50 jx_ki5 ?_
      refine lv_icmp_ne (tgt := 57) hx hb dX6_mayFrom_51 rfl (fun c3 => ?_) (fun c3 => ?_)
      · rw [if_neg c3] at h
        refine lv_iload_n hx hb dX6_mayFrom_57 rfl (lv_at hl 4 rfl) ?_
        refine lv_iconst hx hb dX6_mayFrom_58 jx_ki3 ?_
        refine lv_icmp_ne (tgt := 124) hx hb dX6_mayFrom_59 rfl (fun c4 => ?_) (fun c4 => ?_)
        · rw [if_neg c4] at h
          refine lv_aload_n hx hb dX6_mayFrom_124 rfl (lv_at hl 1 rfl) ?_
          refine lv_iload_n hx hb dX6_mayFrom_125 rfl (lv_at hl 2 rfl) ?_
          obtain ⟨q5, eq5, h⟩ := jx_bi_some h
          refine jm_callI hx hb hml hown hts hlv hK hZ (jm_isJump_met eq5) jm_isJump_g jm_isJump_d (As := [.int x1]) (Nat.le_of_ble_eq_true rfl) (Nat.le_of_ble_eq_true rfl) hP hD hS hl.1 rfl rfl (lv_room (Nat.le_of_ble_eq_true rfl)) dX6_mayFrom_126 (fun H locs hP hD hS => ?_)
          refine lv_if_ne (tgt := 135) hx hb dX6_mayFrom_129 rfl (fun c6 => ?_) (fun c6 => ?_)
          · rw [if_neg c6] at h
            refine lv_aload_n hx hb dX6_mayFrom_135 rfl (lv_at hl 1 rfl) ?_
            refine lv_iload_n hx hb dX6_mayFrom_136 rfl (lv_at hl 2 rfl) ?_
            refine lv_aload_n hx hb dX6_mayFrom_137 rfl (lv_at hl 1 rfl) ?_
            refine jm_get hx hb hts hown hK hP jm_f34 (by decide) jm_g34 dX6_mayFrom_138 ?_
            refine lv_iload_n hx hb dX6_mayFrom_141 rfl (lv_at hl 2 rfl) ?_
            obtain ⟨j7, ej7, bj7, h⟩ := jx_ga_some h
            refine jm_iald hx hb hK hP jm_a34 ej7 bj7 dX6_mayFrom_142 ?_
            obtain ⟨q8, eq8, h⟩ := jx_bi_some h
            refine jm_callL hx hb hml hown hts hlv hK hZ (jm_letsBy_met eq8) jm_letsBy_g jm_letsBy_d (As := [.int x1, .int (q5.2.2.1 34 j7)]) (Nat.le_of_ble_eq_true rfl) (Nat.le_of_ble_eq_true rfl) hP hD hS hl.1 rfl rfl (lv_room (Nat.le_of_ble_eq_true rfl)) dX6_mayFrom_143 (fun H locs hP hD hS => ?_)
            obtain ⟨y9, ey9, h⟩ := jx_nx_some h
            refine jx_topl ey9 ?_
            refine lv_lstore (lv' := [(8, .long y9), (6, .long k0), (0, .ref (ad 0)), (1, .int x1), (2, .int x2), (3, .int x3), (4, .long x4)]) hx hb dX6_mayFrom_146 hl (Nat.le_of_ble_eq_true rfl) rfl (fun ls hl => ?_)
            refine lv_iload_n hx hb dX6_mayFrom_148 rfl (lv_at hl 5 rfl) ?_
            refine lv_bipush hx hb dX6_mayFrom_149 jx_kb7 ?_
            refine lv_icmp_ne (tgt := 185) hx hb dX6_mayFrom_151 rfl (fun c10 => ?_) (fun c10 => ?_)
            · rw [if_neg c10] at h
              refine lv_aload_n hx hb dX6_mayFrom_185 rfl (lv_at hl 2 rfl) ?_
              refine lv_iload_n hx hb dX6_mayFrom_186 rfl (lv_at hl 3 rfl) ?_
              refine lv_iconst hx hb dX6_mayFrom_187 jx_ki5 ?_
              obtain ⟨q11, eq11, h⟩ := jx_bi_some h
              refine jm_callI hx hb hml hown hts hlv hK hZ (jm_of_met eq11) jm_of_g jm_of_d (As := [.int x1, .int (nI 5)]) (Nat.le_of_ble_eq_true rfl) (Nat.le_of_ble_eq_true rfl) hP hD hS hl.1 rfl rfl (lv_room (Nat.le_of_ble_eq_true rfl)) dX6_mayFrom_188 (fun H locs hP hD hS => ?_)
              obtain ⟨y12, ey12, h⟩ := jx_nx_some h
              refine jx_topi ey12 ?_
              refine lv_istore (lv' := [(10, .int y12), (8, .long y9), (6, .long k0), (0, .ref (ad 0)), (1, .int x1), (2, .int x2), (3, .int x3), (4, .long x4)]) hx hb dX6_mayFrom_191 hl (Nat.le_of_ble_eq_true rfl) rfl (fun ls hl => ?_)
              refine lv_aload_n hx hb dX6_mayFrom_193 rfl (lv_at hl 3 rfl) ?_
              refine lv_iload_n hx hb dX6_mayFrom_194 rfl (lv_at hl 5 rfl) ?_
              refine lv_iload hx hb dX6_mayFrom_195 (lv_at hl 0 rfl) ?_
              obtain ⟨q13, eq13, h⟩ := jx_bi_some h
              refine jm_callI hx hb hml hown hts hlv hK hZ (jm_bendsCell_met eq13) jm_bendsCell_g jm_bendsCell_d (As := [.int x2, .int y12]) (Nat.le_of_ble_eq_true rfl) (Nat.le_of_ble_eq_true rfl) hP hD hS hl.1 rfl rfl (lv_room (Nat.le_of_ble_eq_true rfl)) dX6_mayFrom_197 (fun H locs hP hD hS => ?_)
              refine lv_if_ne (tgt := 213) hx hb dX6_mayFrom_200 rfl (fun c14 => ?_) (fun c14 => ?_)
              · rw [if_neg c14] at h
                refine lv_lload hx hb dX6_mayFrom_213 (lv_at hl 1 rfl) ?_
                refine lv_goto (tgt := 228) hx hb dX6_mayFrom_215 rfl ?_
                exact jm_lret hx hb hr hlk hK hZ hP hD hS h dX6_mayFrom_228
              · rw [if_pos c14] at h
                refine lv_aload_n hx hb dX6_mayFrom_203 rfl (lv_at hl 3 rfl) ?_
                refine jm_get hx hb hts hown hK hP jm_f13 (by decide) jm_g13 dX6_mayFrom_204 ?_
                refine lv_iload hx hb dX6_mayFrom_207 (lv_at hl 0 rfl) ?_
                obtain ⟨j15, ej15, bj15, h⟩ := jx_ga_some h
                refine jm_zald hx hb hK hP jm_a13 ej15 bj15 dX6_mayFrom_209 ?_
                refine lv_if_eq (tgt := 218) hx hb dX6_mayFrom_210 rfl (fun c16 => ?_) (fun c16 => ?_)
                · rw [if_pos c16] at h
                  refine lv_aload_n hx hb dX6_mayFrom_218 rfl (lv_at hl 3 rfl) ?_
                  refine jm_get hx hb hts hown hK hP jm_f12 (by decide) jm_g12 dX6_mayFrom_219 ?_
                  refine lv_iload hx hb dX6_mayFrom_222 (lv_at hl 0 rfl) ?_
                  obtain ⟨j17, ej17, bj17, h⟩ := jx_ga_some h
                  refine jm_lald hx hb hK hP jm_a12 ej17 bj17 dX6_mayFrom_224 ?_
                  refine lv_lload hx hb dX6_mayFrom_225 (lv_at hl 1 rfl) ?_
                  refine lv_land hx hb dX6_mayFrom_227 ?_
                  exact jm_lret hx hb hr hlk hK hZ hP hD hS h dX6_mayFrom_228
                · rw [if_neg c16] at h
                  refine lv_lload hx hb dX6_mayFrom_213 (lv_at hl 1 rfl) ?_
                  refine lv_goto (tgt := 228) hx hb dX6_mayFrom_215 rfl ?_
                  exact jm_lret hx hb hr hlk hK hZ hP hD hS h dX6_mayFrom_228
            · rw [if_pos c10] at h
              refine lv_aload_n hx hb dX6_mayFrom_154 rfl (lv_at hl 2 rfl) ?_
              refine lv_iload_n hx hb dX6_mayFrom_155 rfl (lv_at hl 4 rfl) ?_
              obtain ⟨q18, eq18, h⟩ := jx_bi_some h
              refine jm_callI hx hb hml hown hts hlv hK hZ (jm_bendsRow_met eq18) jm_bendsRow_g jm_bendsRow_d (As := [.int x2]) (Nat.le_of_ble_eq_true rfl) (Nat.le_of_ble_eq_true rfl) hP hD hS hl.1 rfl rfl (lv_room (Nat.le_of_ble_eq_true rfl)) dX6_mayFrom_156 (fun H locs hP hD hS => ?_)
              refine lv_if_eq (tgt := 177) hx hb dX6_mayFrom_159 rfl (fun c19 => ?_) (fun c19 => ?_)
              · rw [if_pos c19] at h
                exact jm_mayFrom_b177_ok hX F _ _ h _ _ _ hP hD hS (lv_sub hl [2, 0] rfl)
              · rw [if_neg c19] at h
                refine lv_aload_n hx hb dX6_mayFrom_162 rfl (lv_at hl 2 rfl) ?_
                refine jm_get hx hb hts hown hK hP jm_f34 (by decide) jm_g34 dX6_mayFrom_163 ?_
                refine lv_iload_n hx hb dX6_mayFrom_166 rfl (lv_at hl 3 rfl) ?_
                obtain ⟨j20, ej20, bj20, h⟩ := jx_ga_some h
                refine jm_iald hx hb hK hP jm_a34 ej20 bj20 dX6_mayFrom_167 ?_
                refine lv_iconst hx hb dX6_mayFrom_168 jx_ki3 ?_
                refine lv_icmp_ge (tgt := 177) hx hb dX6_mayFrom_169 rfl (fun c21 => ?_) (fun c21 => ?_)
                · rw [if_pos c21] at h
                  exact jm_mayFrom_b177_ok hX F _ _ h _ _ _ hP hD hS (lv_sub hl [2, 0] rfl)
                · rw [if_neg c21] at h
                  refine lv_lload hx hb dX6_mayFrom_172 (lv_at hl 0 rfl) ?_
                  refine lv_goto (tgt := 184) hx hb dX6_mayFrom_174 rfl ?_
                  exact jm_lret hx hb hr hlk hK hZ hP hD hS h dX6_mayFrom_184
          · rw [if_pos c6] at h
            refine lv_lload hx hb dX6_mayFrom_132 (lv_at hl 5 rfl) ?_
            exact jm_lret hx hb hr hlk hK hZ hP hD hS h dX6_mayFrom_134
        · rw [if_pos c4] at h
          refine lv_aload_n hx hb dX6_mayFrom_62 rfl (lv_at hl 1 rfl) ?_
          refine lv_iload_n hx hb dX6_mayFrom_63 rfl (lv_at hl 2 rfl) ?_
          refine lv_bipush hx hb dX6_mayFrom_64 jx_kb6 ?_
          obtain ⟨q22, eq22, h⟩ := jx_bi_some h
          refine jm_callI hx hb hml hown hts hlv hK hZ (jm_of_met eq22) jm_of_g jm_of_d (As := [.int x1, .int (nI 6)]) (Nat.le_of_ble_eq_true rfl) (Nat.le_of_ble_eq_true rfl) hP hD hS hl.1 rfl rfl (lv_room (Nat.le_of_ble_eq_true rfl)) dX6_mayFrom_66 (fun H locs hP hD hS => ?_)
          refine lv_sipush hx hb dX6_mayFrom_69 jx_ks1000 ?_
          refine lv_icmp_ge (tgt := 92) hx hb dX6_mayFrom_72 rfl (fun c23 => ?_) (fun c23 => ?_)
          · rw [if_pos c23] at h
            exact jm_mayFrom_b92_ok hX F _ _ _ _ h _ _ _ hP hD hS (lv_sub hl [1, 2, 5, 0] rfl)
          · rw [if_neg c23] at h
            refine lv_aload_n hx hb dX6_mayFrom_75 rfl (lv_at hl 1 rfl) ?_
            refine lv_iload_n hx hb dX6_mayFrom_76 rfl (lv_at hl 2 rfl) ?_
            refine lv_bipush hx hb dX6_mayFrom_77 jx_kb7 ?_
            obtain ⟨q24, eq24, h⟩ := jx_bi_some h
            refine jm_callI hx hb hml hown hts hlv hK hZ (jm_of_met eq24) jm_of_g jm_of_d (As := [.int x1, .int (nI 7)]) (Nat.le_of_ble_eq_true rfl) (Nat.le_of_ble_eq_true rfl) hP hD hS hl.1 rfl rfl (lv_room (Nat.le_of_ble_eq_true rfl)) dX6_mayFrom_79 (fun H locs hP hD hS => ?_)
            refine lv_sipush hx hb dX6_mayFrom_82 jx_ks1000 ?_
            refine lv_icmp_ge (tgt := 92) hx hb dX6_mayFrom_85 rfl (fun c25 => ?_) (fun c25 => ?_)
            · rw [if_pos c25] at h
              exact jm_mayFrom_b92_ok hX F _ _ _ _ h _ _ _ hP hD hS (lv_sub hl [1, 2, 5, 0] rfl)
            · rw [if_neg c25] at h
              refine lv_iconst hx hb dX6_mayFrom_88 jx_ki1 ?_
              refine lv_goto (tgt := 93) hx hb dX6_mayFrom_89 rfl ?_
              exact jm_mayFrom_b93_ok hX F _ _ _ _ _ h _ _ _ hP hD hS (lv_sub hl [1, 2, 5, 0] rfl)
      · rw [if_pos c3] at h
        refine lv_lload hx hb dX6_mayFrom_54 (lv_at hl 0 rfl) ?_
        exact jm_lret hx hb hr hlk hK hZ hP hD hS h dX6_mayFrom_56
  · rw [if_pos c1] at h
    refine lv_lconst hx hb dX6_mayFrom_42 jx_kl0 ?_
    exact jm_lret hx hb hr hlk hK hZ hP hD hS h dX6_mayFrom_43
theorem jm_mayFrom_ok {out : Int64 × jm_S} (hX : jm_Ok p R s m args meth c A D ck ad sa cX6_mayFrom 11 (some .long) 4) (F : Nat) (x1 : Int32) (x2 : Int32) (S : jm_S) (h : jm_mayFrom F x1 x2 S = some out) : jm_J p l e R s m args below meth c A D ck ad 11 (jm_Ql below args s A D ck ad sa out) 0 [(0, .ref (ad 0)), (1, .int x1), (2, .int x2)] [] S := by
  intro H locs ls hP hD hS hl
  have hX0 := hX
  obtain ⟨hx, hb, hml, hown, hts, hlk, hr, hlv, hK, hZ⟩ := hX0
  unfold jm_mayFrom at h
  refine lv_aload_n hx hb dX6_mayFrom_0 rfl (lv_at hl 0 rfl) ?_
  refine lv_iload_n hx hb dX6_mayFrom_1 rfl (lv_at hl 1 rfl) ?_
  obtain ⟨q1, eq1, h⟩ := jx_bi_some h
  refine jm_callI hx hb hml hown hts hlv hK hZ (jm_wordOf_met eq1) jm_wordOf_g jm_wordOf_d (As := [.int x1]) (Nat.le_of_ble_eq_true rfl) (Nat.le_of_ble_eq_true rfl) hP hD hS hl.1 rfl rfl (lv_room (Nat.le_of_ble_eq_true rfl)) dX6_mayFrom_2 (fun H locs hP hD hS => ?_)
  obtain ⟨y2, ey2, h⟩ := jx_nx_some h
  refine jx_topi ey2 ?_
  refine lv_istore_n (lv' := [(3, .int y2), (0, .ref (ad 0)), (1, .int x1), (2, .int x2)]) hx hb dX6_mayFrom_5 rfl hl (Nat.le_of_ble_eq_true rfl) rfl (fun ls hl => ?_)
  refine lv_lconst hx hb dX6_mayFrom_6 jx_kl1 ?_
  refine lv_iload_n hx hb dX6_mayFrom_7 rfl (lv_at hl 2 rfl) ?_
  refine lv_iconst hx hb dX6_mayFrom_8 jx_ki1 ?_
  refine lv_iadd hx hb dX6_mayFrom_9 ?_
  refine lv_lshl hx hb dX6_mayFrom_10 rfl ?_
  obtain ⟨y3, ey3, h⟩ := jx_nx_some h
  refine jx_topl ey3 ?_
  refine lv_lstore (lv' := [(4, .long y3), (3, .int y2), (0, .ref (ad 0)), (1, .int x1), (2, .int x2)]) hx hb dX6_mayFrom_11 hl (Nat.le_of_ble_eq_true rfl) rfl (fun ls hl => ?_)
  refine lv_aload_n hx hb dX6_mayFrom_13 rfl (lv_at hl 2 rfl) ?_
  refine lv_iload_n hx hb dX6_mayFrom_14 rfl (lv_at hl 3 rfl) ?_
  refine lv_iconst hx hb dX6_mayFrom_15 jx_ki4 ?_
  obtain ⟨q4, eq4, h⟩ := jx_bi_some h
  refine jm_callI hx hb hml hown hts hlv hK hZ (jm_of_met eq4) jm_of_g jm_of_d (As := [.int x1, .int (nI 4)]) (Nat.le_of_ble_eq_true rfl) (Nat.le_of_ble_eq_true rfl) hP hD hS hl.1 rfl rfl (lv_room (Nat.le_of_ble_eq_true rfl)) dX6_mayFrom_16 (fun H locs hP hD hS => ?_)
  refine lv_if_ge (tgt := 26) hx hb dX6_mayFrom_19 rfl (fun c5 => ?_) (fun c5 => ?_)
  · rw [if_pos c5] at h
    refine lv_lconst hx hb dX6_mayFrom_26 jx_kl1 ?_
    refine lv_aload_n hx hb dX6_mayFrom_27 rfl (lv_at hl 2 rfl) ?_
    refine lv_iload_n hx hb dX6_mayFrom_28 rfl (lv_at hl 3 rfl) ?_
    refine lv_iconst hx hb dX6_mayFrom_29 jx_ki4 ?_
    obtain ⟨q6, eq6, h⟩ := jx_bi_some h
    refine jm_callI hx hb hml hown hts hlv hK hZ (jm_of_met eq6) jm_of_g jm_of_d (As := [.int x1, .int (nI 4)]) (Nat.le_of_ble_eq_true rfl) (Nat.le_of_ble_eq_true rfl) hP hD hS hl.1 rfl rfl (lv_room (Nat.le_of_ble_eq_true rfl)) dX6_mayFrom_30 (fun H locs hP hD hS => ?_)
    refine lv_lshl hx hb dX6_mayFrom_33 rfl ?_
    exact jm_mayFrom_b34_ok hX F _ _ _ _ _ _ h _ _ _ hP hD hS (lv_sub hl [2, 3, 4, 1, 0] rfl)
  · rw [if_neg c5] at h
    refine lv_lconst hx hb dX6_mayFrom_22 jx_kl0 ?_
    refine lv_goto (tgt := 34) hx hb dX6_mayFrom_23 rfl ?_
    exact jm_mayFrom_b34_ok hX F _ _ _ _ _ _ h _ _ _ hP hD hS (lv_sub hl [2, 3, 4, 1, 0] rfl)
theorem jm_mayFrom_met {l : Launch} {D : va_G} {ck : Nat → ClassId} {ad sa : Nat → Nat} {A : Nat → Prop} {F : Nat} {x1 : Int32} {x2 : Int32} {S : jm_S} {out : Int64 × jm_S} (h : jm_mayFrom F x1 x2 S = some out) : jm_Ml l D ck ad sa A yX6_mayFrom cX6_mayFrom 11 (some .long) 4 [.int x1, .int x2] S out :=
  jm_Ml_of ⟨by decide, rfl, Nat.le_of_ble_eq_true rfl⟩ (fun hX => jm_mayFrom_ok hX F x1 x2 S h)
theorem jm_ways_d : yX6_ways.cls = RX6 ∧ yX6_ways.cls ≠ "java/lang/invoke/MethodHandle" ∧ yX6_ways.cls ≠ "java/lang/invoke/VarHandle" ∧ (parseMethodDescriptor yX6_ways.desc).map (fun d => d.parameters.length) = some 1 := by decide +kernel
theorem jm_ways_g : GoodIn lw_all (wsV RX6 373 RX6 yX6_ways (ws_ yX6_ways cX6_ways 3 none)) := lw_V q2001 q2003 qs83 q110 q2004
theorem jm_ways_L2_ok {out : jm_S} (hX : jm_Ok p R s m args meth c A D ck ad sa cX6_ways 3 none 5) (F : Nat) {r2 : Int32 × Int32 × jm_S → Option (jm_S)} (hr2 : ∀ a, r2 a = some out → jm_J p l e R s m args below meth c A D ck ad 3 (jm_Qv below args s A D ck ad sa out) 2 [(0, .ref (ad 0)), (1, .int a.1), (2, .int a.2.1)] [] a.2.2) (x1 : Int32) (x2 : Int32) (S : jm_S) (h : jm_ways_L2 F r2 x1 x2 S = some out) : jm_J p l e R s m args below meth c A D ck ad 3 (jm_Qv below args s A D ck ad sa out) 2 [(0, .ref (ad 0)), (1, .int x1), (2, .int x2)] [] S := by
  intro H locs ls hP hD hS hl
  have hX0 := hX
  obtain ⟨hx, hb, hml, hown, hts, hlk, hr, hlv, hK, hZ⟩ := hX0
  unfold jm_ways_L2 at h
  refine lv_iload_n hx hb dX6_ways_2 rfl (lv_at hl 2 rfl) ?_
  refine lv_aload_n hx hb dX6_ways_3 rfl (lv_at hl 0 rfl) ?_
  obtain ⟨q1, eq1, h⟩ := jx_bi_some h
  refine jm_callI hx hb hml hown hts hlv hK hZ (jm_orders_met eq1) jm_orders_g jm_orders_d (As := []) (Nat.le_of_ble_eq_true rfl) (Nat.le_of_ble_eq_true rfl) hP hD hS hl.1 rfl rfl (lv_room (Nat.le_of_ble_eq_true rfl)) dX6_ways_4 (fun H locs hP hD hS => ?_)
  refine lv_icmp_ge (tgt := 33) hx hb dX6_ways_7 rfl (fun c2 => ?_) (fun c2 => ?_)
  · rw [if_pos c2] at h
    exact jm_vret hx hb hr hlk hK hZ hP hD hS h dX6_ways_33
  · rw [if_neg c2] at h
    refine lv_aload_n hx hb dX6_ways_10 rfl (lv_at hl 0 rfl) ?_
    refine jm_get hx hb hts hown hK hP jm_f35 (by decide) jm_g35 dX6_ways_11 ?_
    refine lv_iload_n hx hb dX6_ways_14 rfl (lv_at hl 2 rfl) ?_
    refine lv_aload_n hx hb dX6_ways_15 rfl (lv_at hl 0 rfl) ?_
    refine lv_iload_n hx hb dX6_ways_16 rfl (lv_at hl 2 rfl) ?_
    refine lv_iload_n hx hb dX6_ways_17 rfl (lv_at hl 1 rfl) ?_
    obtain ⟨q3, eq3, h⟩ := jx_bi_some h
    refine jm_callL hx hb hml hown hts hlv hK hZ (jm_mayFrom_met eq3) jm_mayFrom_g jm_mayFrom_d (As := [.int x2, .int x1]) (Nat.le_of_ble_eq_true rfl) (Nat.le_of_ble_eq_true rfl) hP hD hS hl.1 rfl rfl (lv_room (Nat.le_of_ble_eq_true rfl)) dX6_ways_18 (fun H locs hP hD hS => ?_)
    refine lv_aload_n hx hb dX6_ways_21 rfl (lv_at hl 0 rfl) ?_
    obtain ⟨q4, eq4, h⟩ := jx_bi_some h
    refine jm_callL hx hb hml hown hts hlv hK hZ (jm_all_met eq4) jm_all_g jm_all_d (As := []) (Nat.le_of_ble_eq_true rfl) (Nat.le_of_ble_eq_true rfl) hP hD hS hl.1 rfl rfl (lv_room (Nat.le_of_ble_eq_true rfl)) dX6_ways_22 (fun H locs hP hD hS => ?_)
    refine lv_land hx hb dX6_ways_25 ?_
    obtain ⟨j5, ej5, bj5, h⟩ := jx_ga_some h
    obtain ⟨S6, eS6, h⟩ := jx_nx_some h
    refine jm_last hx hb hK hP hD hS jm_a35 (fun f => jm_u35 f) ej5 bj5 eS6 dX6_ways_26 (fun H locs hP hD hS => ?_)
    obtain ⟨y7, ey7, h⟩ := jx_nx_some h
    refine lv_iinc (v := y7) (lv' := [(2, .int y7), (0, .ref (ad 0)), (1, .int x1)]) hx hb dX6_ways_27 hl (k := 2) rfl (jx_inc jx_ki1 ey7) (Nat.le_of_ble_eq_true rfl) rfl (fun ls hl => ?_)
    refine lv_goto (tgt := 2) hx hb dX6_ways_30 rfl ?_
    exact hr2 _ h _ _ _ hP hD hS (lv_sub hl [1, 2, 0] rfl)
theorem jm_ways_h2_ok {out : jm_S} (hX : jm_Ok p R s m args meth c A D ck ad sa cX6_ways 3 none 5) (F : Nat) (n : Nat) (a : Int32 × Int32 × jm_S) (h : jm_ways_h2 F n a = some out) : jm_J p l e R s m args below meth c A D ck ad 3 (jm_Qv below args s A D ck ad sa out) 2 [(0, .ref (ad 0)), (1, .int a.1), (2, .int a.2.1)] [] a.2.2 :=
  jx_loop_ind (J := fun a => jm_J p l e R s m args below meth c A D ck ad 3 (jm_Qv below args s A D ck ad sa out) 2 [(0, .ref (ad 0)), (1, .int a.1), (2, .int a.2.1)] [] a.2.2) (fun r hr a h => jm_ways_L2_ok hX F hr a.1 a.2.1 a.2.2 h) n a h
theorem jm_ways_ok {out : jm_S} (hX : jm_Ok p R s m args meth c A D ck ad sa cX6_ways 3 none 5) (F : Nat) (x1 : Int32) (S : jm_S) (h : jm_ways F x1 S = some out) : jm_J p l e R s m args below meth c A D ck ad 3 (jm_Qv below args s A D ck ad sa out) 0 [(0, .ref (ad 0)), (1, .int x1)] [] S := by
  intro H locs ls hP hD hS hl
  have hX0 := hX
  obtain ⟨hx, hb, hml, hown, hts, hlk, hr, hlv, hK, hZ⟩ := hX0
  unfold jm_ways at h
  refine lv_iconst hx hb dX6_ways_0 jx_ki0 ?_
  obtain ⟨y1, ey1, h⟩ := jx_nx_some h
  refine jx_topi ey1 ?_
  refine lv_istore_n (lv' := [(2, .int y1), (0, .ref (ad 0)), (1, .int x1)]) hx hb dX6_ways_1 rfl hl (Nat.le_of_ble_eq_true rfl) rfl (fun ls hl => ?_)
  exact jm_ways_h2_ok hX F F _ h _ _ _ hP hD hS (lv_sub hl [1, 2, 0] rfl)
theorem jm_ways_met {l : Launch} {D : va_G} {ck : Nat → ClassId} {ad sa : Nat → Nat} {A : Nat → Prop} {F : Nat} {x1 : Int32} {S : jm_S} {out : jm_S} (h : jm_ways F x1 S = some out) : jm_Mv l D ck ad sa A yX6_ways cX6_ways 3 none 5 [.int x1] S out :=
  jm_Mv_of ⟨by decide, rfl, Nat.le_of_ble_eq_true rfl⟩ (fun hX => jm_ways_ok hX F x1 S h)
theorem jm_closed_d : yX6_closed.cls = RX6 ∧ yX6_closed.cls ≠ "java/lang/invoke/MethodHandle" ∧ yX6_closed.cls ≠ "java/lang/invoke/VarHandle" ∧ (parseMethodDescriptor yX6_closed.desc).map (fun d => d.parameters.length) = some 1 := by decide +kernel
theorem jm_closed_ok {out : Int64 × jm_S} (hX : jm_Ok p R s m args meth c A D ck ad sa cX6_closed 2 (some .long) 9) (F : Nat) (x1 : Int32) (S : jm_S) (h : jm_closed F x1 S = some out) : jm_J p l e R s m args below meth c A D ck ad 2 (jm_Ql below args s A D ck ad sa out) 0 [(0, .ref (ad 0)), (1, .int x1)] [] S := by
  intro H locs ls hP hD hS hl
  have hX0 := hX
  obtain ⟨hx, hb, hml, hown, hts, hlk, hr, hlv, hK, hZ⟩ := hX0
  unfold jm_closed at h
  refine lv_aload_n hx hb dX6_closed_0 rfl (lv_at hl 0 rfl) ?_
  refine lv_iconst hx hb dX6_closed_1 jx_ki0 ?_
  obtain ⟨S1, eS1, h⟩ := jx_nx_some h
  refine jm_put hx hb hts hown hK hP hD hS eS1 jm_f0 (by decide) jm_n0 jm_d0 jm_p0 dX6_closed_2 (fun H locs hP hD hS => ?_)
  refine lv_aload_n hx hb dX6_closed_5 rfl (lv_at hl 0 rfl) ?_
  refine lv_aload_n hx hb dX6_closed_6 rfl (lv_at hl 0 rfl) ?_
  refine lv_iload_n hx hb dX6_closed_7 rfl (lv_at hl 1 rfl) ?_
  obtain ⟨q2, eq2, h⟩ := jx_bi_some h
  refine jm_callI hx hb hml hown hts hlv hK hZ (jm_noPower_met eq2) jm_noPower_g jm_noPower_d (As := [.int x1]) (Nat.le_of_ble_eq_true rfl) (Nat.le_of_ble_eq_true rfl) hP hD hS hl.1 rfl rfl (lv_room (Nat.le_of_ble_eq_true rfl)) dX6_closed_8 (fun H locs hP hD hS => ?_)
  refine lv_iconst hx hb dX6_closed_11 jx_ki1 ?_
  obtain ⟨q3, eq3, h⟩ := jx_bi_some h
  refine jm_callI hx hb hml hown hts hlv hK hZ (jm_throwsIf_met eq3) jm_throwsIf_g jm_throwsIf_d (As := [.int q2.1, .int (nI 1)]) (Nat.le_of_ble_eq_true rfl) (Nat.le_of_ble_eq_true rfl) hP hD hS hl.1 rfl rfl (lv_room (Nat.le_of_ble_eq_true rfl)) dX6_closed_12 (fun H locs hP hD hS => ?_)
  refine lv_if_eq (tgt := 20) hx hb dX6_closed_15 rfl (fun c4 => ?_) (fun c4 => ?_)
  · rw [if_pos c4] at h
    refine lv_aload_n hx hb dX6_closed_20 rfl (lv_at hl 0 rfl) ?_
    obtain ⟨q5, eq5, h⟩ := jx_bi_some h
    refine jm_callV hx hb hml hown hts hlv hK hZ (jm_flows_met eq5) jm_flows_g jm_flows_d (As := []) (Nat.le_of_ble_eq_true rfl) (Nat.le_of_ble_eq_true rfl) hP hD hS hl.1 rfl rfl (lv_room (Nat.le_of_ble_eq_true rfl)) dX6_closed_21 (fun H locs hP hD hS => ?_)
    refine lv_aload_n hx hb dX6_closed_24 rfl (lv_at hl 0 rfl) ?_
    obtain ⟨q6, eq6, h⟩ := jx_bi_some h
    refine jm_callV hx hb hml hown hts hlv hK hZ (jm_gradesNow_met eq6) jm_gradesNow_g jm_gradesNow_d (As := []) (Nat.le_of_ble_eq_true rfl) (Nat.le_of_ble_eq_true rfl) hP hD hS hl.1 rfl rfl (lv_room (Nat.le_of_ble_eq_true rfl)) dX6_closed_25 (fun H locs hP hD hS => ?_)
    refine lv_aload_n hx hb dX6_closed_28 rfl (lv_at hl 0 rfl) ?_
    refine lv_iload_n hx hb dX6_closed_29 rfl (lv_at hl 1 rfl) ?_
    obtain ⟨q7, eq7, h⟩ := jx_bi_some h
    refine jm_callV hx hb hml hown hts hlv hK hZ (jm_ways_met eq7) jm_ways_g jm_ways_d (As := [.int x1]) (Nat.le_of_ble_eq_true rfl) (Nat.le_of_ble_eq_true rfl) hP hD hS hl.1 rfl rfl (lv_room (Nat.le_of_ble_eq_true rfl)) dX6_closed_30 (fun H locs hP hD hS => ?_)
    refine lv_aload_n hx hb dX6_closed_33 rfl (lv_at hl 0 rfl) ?_
    obtain ⟨q8, eq8, h⟩ := jx_bi_some h
    refine jm_callL hx hb hml hown hts hlv hK hZ (jm_closedSet_met eq8) jm_closedSet_g jm_closedSet_d (As := []) (Nat.le_of_ble_eq_true rfl) (Nat.le_of_ble_eq_true rfl) hP hD hS hl.1 rfl rfl (lv_room (Nat.le_of_ble_eq_true rfl)) dX6_closed_34 (fun H locs hP hD hS => ?_)
    exact jm_lret hx hb hr hlk hK hZ hP hD hS h dX6_closed_37
  · rw [if_neg c4] at h
    refine lv_lconst hx hb dX6_closed_18 jx_kl0 ?_
    exact jm_lret hx hb hr hlk hK hZ hP hD hS h dX6_closed_19
theorem jm_closed_met {l : Launch} {D : va_G} {ck : Nat → ClassId} {ad sa : Nat → Nat} {A : Nat → Prop} {F : Nat} {x1 : Int32} {S : jm_S} {out : Int64 × jm_S} (h : jm_closed F x1 S = some out) : jm_Ml l D ck ad sa A yX6_closed cX6_closed 2 (some .long) 9 [.int x1] S out :=
  jm_Ml_of ⟨by decide, rfl, Nat.le_of_ble_eq_true rfl⟩ (fun hX => jm_closed_ok hX F x1 S h)
theorem jm_noHarm_d : yX6_noHarm.cls = RX6 ∧ yX6_noHarm.cls ≠ "java/lang/invoke/MethodHandle" ∧ yX6_noHarm.cls ≠ "java/lang/invoke/VarHandle" ∧ (parseMethodDescriptor yX6_noHarm.desc).map (fun d => d.parameters.length) = some 1 := by decide +kernel
theorem jm_noHarm_g : GoodIn lw_all (wsV RX6 402 RX6 yX6_noHarm (ws_ yX6_noHarm cX6_noHarm 2 (some .boolean))) := lw_V q2025 q2027 qs88 q110 q2028
theorem jm_noHarm_ok {out : Int32 × jm_S} (hX : jm_Ok p R s m args meth c A D ck ad sa cX6_noHarm 2 (some .boolean) 1) (F : Nat) (x1 : Int32) (S : jm_S) (h : jm_noHarm F x1 S = some out) : jm_J p l e R s m args below meth c A D ck ad 2 (jm_Qi below args s A D ck ad sa out) 0 [(0, .ref (ad 0)), (1, .int x1)] [] S := by
  intro H locs ls hP hD hS hl
  have hX0 := hX
  obtain ⟨hx, hb, hml, hown, hts, hlk, hr, hlv, hK, hZ⟩ := hX0
  unfold jm_noHarm at h
  refine lv_iload_n hx hb dX6_noHarm_0 rfl (lv_at hl 1 rfl) ?_
  refine lv_iconst hx hb dX6_noHarm_1 jx_ki0 ?_
  refine lv_aload_n hx hb dX6_noHarm_2 rfl (lv_at hl 0 rfl) ?_
  refine jm_get hx hb hts hown hK hP jm_f1 (by decide) jm_g1 dX6_noHarm_3 ?_
  refine lv_iconst hx hb dX6_noHarm_6 jx_ki3 ?_
  obtain ⟨j1, ej1, bj1, h⟩ := jx_ga_some h
  refine jm_iald hx hb hK hP jm_a1 ej1 bj1 dX6_noHarm_7 ?_
  refine lv_iconst hx hb dX6_noHarm_8 jx_ki1 ?_
  refine lv_isub hx hb dX6_noHarm_9 ?_
  obtain ⟨q2, eq2, h⟩ := jx_bi_some h
  refine jx_callSi hx hb hml hown hts (jm_in_met eq2) jm_in_g_X6 jm_in_d (As := [.int x1, .int (nI 0), .int ((S.2.1 1 j1) - (nI 1))]) (by rw [hlv]; decide) hl.1 rfl rfl (lv_room (Nat.le_of_ble_eq_true rfl)) dX6_noHarm_10 (by rw [hlv]; exact ⟨Nat.zero_le _, Nat.zero_le _⟩) ?_
  refine lv_if_ne (tgt := 20) hx hb dX6_noHarm_13 rfl (fun c3 => ?_) (fun c3 => ?_)
  · rw [if_neg c3] at h
    refine lv_iconst hx hb dX6_noHarm_20 jx_ki0 ?_
    exact jm_zret hx hb hr hlk hK hZ hP hD hS jx_nz0 h dX6_noHarm_21
  · rw [if_pos c3] at h
    refine lv_iconst hx hb dX6_noHarm_16 jx_ki1 ?_
    refine lv_goto (tgt := 21) hx hb dX6_noHarm_17 rfl ?_
    exact jm_zret hx hb hr hlk hK hZ hP hD hS jx_nz1 h dX6_noHarm_21
theorem jm_noHarm_met {l : Launch} {D : va_G} {ck : Nat → ClassId} {ad sa : Nat → Nat} {A : Nat → Prop} {F : Nat} {x1 : Int32} {S : jm_S} {out : Int32 × jm_S} (h : jm_noHarm F x1 S = some out) : jm_Mi l D ck ad sa A yX6_noHarm cX6_noHarm 2 (some .boolean) 1 [.int x1] S out :=
  jm_Mi_of ⟨by decide, rfl, Nat.le_of_ble_eq_true rfl⟩ (fun hX => jm_noHarm_ok hX F x1 S h)
theorem jm_doorsOf_d : yX6_doorsOf.cls = RX6 ∧ yX6_doorsOf.cls ≠ "java/lang/invoke/MethodHandle" ∧ yX6_doorsOf.cls ≠ "java/lang/invoke/VarHandle" ∧ (parseMethodDescriptor yX6_doorsOf.desc).map (fun d => d.parameters.length) = some 1 := by decide +kernel
theorem jm_doorsOf_g : GoodIn lw_all (wsV RX6 379 RX6 yX6_doorsOf (ws_ yX6_doorsOf cX6_doorsOf 5 (some .long))) := lw_V q2037 q2039 qs91 q110 q2040
theorem jm_doorsOf_b67_ok {out : Int64 × jm_S} (hX : jm_Ok p R s m args meth c A D ck ad sa cX6_doorsOf 5 (some .long) 2) (F : Nat) {r5 : Int32 × Int64 × Int32 × jm_S → Option (Int64 × jm_S)} (hr5 : ∀ a, r5 a = some out → jm_J p l e R s m args below meth c A D ck ad 5 (jm_Ql below args s A D ck ad sa out) 5 [(0, .ref (ad 0)), (1, .int a.1), (2, .long a.2.1), (4, .int a.2.2.1)] [] a.2.2.2) (x1 : Int32) (x2 : Int64) (x4 : Int32) (S : jm_S) (h : jm_doorsOf_b67 F r5 x1 x2 x4 S = some out) : jm_J p l e R s m args below meth c A D ck ad 5 (jm_Ql below args s A D ck ad sa out) 67 [(0, .ref (ad 0)), (1, .int x1), (2, .long x2), (4, .int x4)] [] S := by
  intro H locs ls hP hD hS hl
  have hX0 := hX
  obtain ⟨hx, hb, hml, hown, hts, hlk, hr, hlv, hK, hZ⟩ := hX0
  unfold jm_doorsOf_b67 at h
  obtain ⟨y1, ey1, h⟩ := jx_nx_some h
  refine lv_iinc (v := y1) (lv' := [(4, .int y1), (0, .ref (ad 0)), (1, .int x1), (2, .long x2)]) hx hb dX6_doorsOf_67 hl (k := 3) rfl (jx_inc jx_ki1 ey1) (Nat.le_of_ble_eq_true rfl) rfl (fun ls hl => ?_)
  refine lv_goto (tgt := 5) hx hb dX6_doorsOf_70 rfl ?_
  exact hr5 _ h _ _ _ hP hD hS (lv_sub hl [1, 2, 3, 0] rfl)
theorem jm_doorsOf_b60_ok {out : Int64 × jm_S} (hX : jm_Ok p R s m args meth c A D ck ad sa cX6_doorsOf 5 (some .long) 2) (F : Nat) {r5 : Int32 × Int64 × Int32 × jm_S → Option (Int64 × jm_S)} (hr5 : ∀ a, r5 a = some out → jm_J p l e R s m args below meth c A D ck ad 5 (jm_Ql below args s A D ck ad sa out) 5 [(0, .ref (ad 0)), (1, .int a.1), (2, .long a.2.1), (4, .int a.2.2.1)] [] a.2.2.2) (x1 : Int32) (x2 : Int64) (x4 : Int32) (S : jm_S) (h : jm_doorsOf_b60 F r5 x1 x2 x4 S = some out) : jm_J p l e R s m args below meth c A D ck ad 5 (jm_Ql below args s A D ck ad sa out) 60 [(0, .ref (ad 0)), (1, .int x1), (2, .long x2), (4, .int x4)] [] S := by
  intro H locs ls hP hD hS hl
  have hX0 := hX
  obtain ⟨hx, hb, hml, hown, hts, hlk, hr, hlv, hK, hZ⟩ := hX0
  unfold jm_doorsOf_b60 at h
  refine lv_lload_n hx hb dX6_doorsOf_60 rfl (lv_at hl 2 rfl) ?_
  refine lv_lconst hx hb dX6_doorsOf_61 jx_kl1 ?_
  refine lv_iload hx hb dX6_doorsOf_62 (lv_at hl 3 rfl) ?_
  refine lv_lshl hx hb dX6_doorsOf_64 rfl ?_
  refine lv_lor hx hb dX6_doorsOf_65 ?_
  obtain ⟨y1, ey1, h⟩ := jx_nx_some h
  refine jx_topl ey1 ?_
  refine lv_lstore_n (lv' := [(2, .long y1), (0, .ref (ad 0)), (1, .int x1), (4, .int x4)]) hx hb dX6_doorsOf_66 rfl hl (Nat.le_of_ble_eq_true rfl) rfl (fun ls hl => ?_)
  exact jm_doorsOf_b67_ok hX F hr5 _ _ _ _ h _ _ _ hP hD hS (lv_sub hl [1, 2, 0, 3] rfl)
theorem jm_doorsOf_L5_ok {out : Int64 × jm_S} (hX : jm_Ok p R s m args meth c A D ck ad sa cX6_doorsOf 5 (some .long) 2) (F : Nat) {r5 : Int32 × Int64 × Int32 × jm_S → Option (Int64 × jm_S)} (hr5 : ∀ a, r5 a = some out → jm_J p l e R s m args below meth c A D ck ad 5 (jm_Ql below args s A D ck ad sa out) 5 [(0, .ref (ad 0)), (1, .int a.1), (2, .long a.2.1), (4, .int a.2.2.1)] [] a.2.2.2) (x1 : Int32) (x2 : Int64) (x4 : Int32) (S : jm_S) (h : jm_doorsOf_L5 F r5 x1 x2 x4 S = some out) : jm_J p l e R s m args below meth c A D ck ad 5 (jm_Ql below args s A D ck ad sa out) 5 [(0, .ref (ad 0)), (1, .int x1), (2, .long x2), (4, .int x4)] [] S := by
  intro H locs ls hP hD hS hl
  have hX0 := hX
  obtain ⟨hx, hb, hml, hown, hts, hlk, hr, hlv, hK, hZ⟩ := hX0
  unfold jm_doorsOf_L5 at h
  refine lv_iload hx hb dX6_doorsOf_5 (lv_at hl 3 rfl) ?_
  refine lv_aload_n hx hb dX6_doorsOf_7 rfl (lv_at hl 0 rfl) ?_
  obtain ⟨q1, eq1, h⟩ := jx_bi_some h
  refine jm_callI hx hb hml hown hts hlv hK hZ (jm_orders_met eq1) jm_orders_g jm_orders_d (As := []) (Nat.le_of_ble_eq_true rfl) (Nat.le_of_ble_eq_true rfl) hP hD hS hl.1 rfl rfl (lv_room (Nat.le_of_ble_eq_true rfl)) dX6_doorsOf_8 (fun H locs hP hD hS => ?_)
  refine lv_icmp_ge (tgt := 73) hx hb dX6_doorsOf_11 rfl (fun c2 => ?_) (fun c2 => ?_)
  · rw [if_pos c2] at h
    refine lv_lload_n hx hb dX6_doorsOf_73 rfl (lv_at hl 2 rfl) ?_
    exact jm_lret hx hb hr hlk hK hZ hP hD hS h dX6_doorsOf_74
  · rw [if_neg c2] at h
    refine lv_aload_n hx hb dX6_doorsOf_14 rfl (lv_at hl 0 rfl) ?_
    refine lv_iload hx hb dX6_doorsOf_15 (lv_at hl 3 rfl) ?_
    obtain ⟨q3, eq3, h⟩ := jx_bi_some h
    refine jm_callI hx hb hml hown hts hlv hK hZ (jm_wordOf_met eq3) jm_wordOf_g jm_wordOf_d (As := [.int x4]) (Nat.le_of_ble_eq_true rfl) (Nat.le_of_ble_eq_true rfl) hP hD hS hl.1 rfl rfl (lv_room (Nat.le_of_ble_eq_true rfl)) dX6_doorsOf_17 (fun H locs hP hD hS => ?_)
    refine lv_bipush hx hb dX6_doorsOf_20 jx_kb8 ?_
    refine lv_icmp_ne (tgt := 67) hx hb dX6_doorsOf_22 rfl (fun c4 => ?_) (fun c4 => ?_)
    · rw [if_neg c4] at h
      exact jm_doorsOf_b67_ok hX F hr5 _ _ _ _ h _ _ _ hP hD hS hl
    · rw [if_pos c4] at h
      refine lv_aload_n hx hb dX6_doorsOf_25 rfl (lv_at hl 0 rfl) ?_
      refine lv_iload hx hb dX6_doorsOf_26 (lv_at hl 3 rfl) ?_
      refine lv_bipush hx hb dX6_doorsOf_28 jx_kb6 ?_
      obtain ⟨q5, eq5, h⟩ := jx_bi_some h
      refine jm_callI hx hb hml hown hts hlv hK hZ (jm_of_met eq5) jm_of_g jm_of_d (As := [.int x4, .int (nI 6)]) (Nat.le_of_ble_eq_true rfl) (Nat.le_of_ble_eq_true rfl) hP hD hS hl.1 rfl rfl (lv_room (Nat.le_of_ble_eq_true rfl)) dX6_doorsOf_30 (fun H locs hP hD hS => ?_)
      refine lv_sipush hx hb dX6_doorsOf_33 jx_ks1000 ?_
      refine lv_icmp_ge (tgt := 60) hx hb dX6_doorsOf_36 rfl (fun c6 => ?_) (fun c6 => ?_)
      · rw [if_pos c6] at h
        exact jm_doorsOf_b60_ok hX F hr5 _ _ _ _ h _ _ _ hP hD hS hl
      · rw [if_neg c6] at h
        refine lv_aload_n hx hb dX6_doorsOf_39 rfl (lv_at hl 0 rfl) ?_
        refine lv_iload hx hb dX6_doorsOf_40 (lv_at hl 3 rfl) ?_
        refine lv_bipush hx hb dX6_doorsOf_42 jx_kb6 ?_
        obtain ⟨q7, eq7, h⟩ := jx_bi_some h
        refine jm_callI hx hb hml hown hts hlv hK hZ (jm_of_met eq7) jm_of_g jm_of_d (As := [.int x4, .int (nI 6)]) (Nat.le_of_ble_eq_true rfl) (Nat.le_of_ble_eq_true rfl) hP hD hS hl.1 rfl rfl (lv_room (Nat.le_of_ble_eq_true rfl)) dX6_doorsOf_44 (fun H locs hP hD hS => ?_)
        refine lv_aload_n hx hb dX6_doorsOf_47 rfl (lv_at hl 0 rfl) ?_
        refine jm_get hx hb hts hown hK hP jm_f1 (by decide) jm_g1 dX6_doorsOf_48 ?_
        refine lv_sipush hx hb dX6_doorsOf_51 jx_ks404 ?_
        refine lv_iload_n hx hb dX6_doorsOf_54 rfl (lv_at hl 1 rfl) ?_
        refine lv_iadd hx hb dX6_doorsOf_55 ?_
        obtain ⟨j8, ej8, bj8, h⟩ := jx_ga_some h
        refine jm_iald hx hb hK hP jm_a1 ej8 bj8 dX6_doorsOf_56 ?_
        refine lv_icmp_ne (tgt := 67) hx hb dX6_doorsOf_57 rfl (fun c9 => ?_) (fun c9 => ?_)
        · rw [if_neg c9] at h
          exact jm_doorsOf_b67_ok hX F hr5 _ _ _ _ h _ _ _ hP hD hS hl
        · rw [if_pos c9] at h
          exact jm_doorsOf_b60_ok hX F hr5 _ _ _ _ h _ _ _ hP hD hS hl
theorem jm_doorsOf_h5_ok {out : Int64 × jm_S} (hX : jm_Ok p R s m args meth c A D ck ad sa cX6_doorsOf 5 (some .long) 2) (F : Nat) (n : Nat) (a : Int32 × Int64 × Int32 × jm_S) (h : jm_doorsOf_h5 F n a = some out) : jm_J p l e R s m args below meth c A D ck ad 5 (jm_Ql below args s A D ck ad sa out) 5 [(0, .ref (ad 0)), (1, .int a.1), (2, .long a.2.1), (4, .int a.2.2.1)] [] a.2.2.2 :=
  jx_loop_ind (J := fun a => jm_J p l e R s m args below meth c A D ck ad 5 (jm_Ql below args s A D ck ad sa out) 5 [(0, .ref (ad 0)), (1, .int a.1), (2, .long a.2.1), (4, .int a.2.2.1)] [] a.2.2.2) (fun r hr a h => jm_doorsOf_L5_ok hX F hr a.1 a.2.1 a.2.2.1 a.2.2.2 h) n a h
theorem jm_doorsOf_ok {out : Int64 × jm_S} (hX : jm_Ok p R s m args meth c A D ck ad sa cX6_doorsOf 5 (some .long) 2) (F : Nat) (x1 : Int32) (S : jm_S) (h : jm_doorsOf F x1 S = some out) : jm_J p l e R s m args below meth c A D ck ad 5 (jm_Ql below args s A D ck ad sa out) 0 [(0, .ref (ad 0)), (1, .int x1)] [] S := by
  intro H locs ls hP hD hS hl
  have hX0 := hX
  obtain ⟨hx, hb, hml, hown, hts, hlk, hr, hlv, hK, hZ⟩ := hX0
  unfold jm_doorsOf at h
  refine lv_lconst hx hb dX6_doorsOf_0 jx_kl0 ?_
  obtain ⟨y1, ey1, h⟩ := jx_nx_some h
  refine jx_topl ey1 ?_
  refine lv_lstore_n (lv' := [(2, .long y1), (0, .ref (ad 0)), (1, .int x1)]) hx hb dX6_doorsOf_1 rfl hl (Nat.le_of_ble_eq_true rfl) rfl (fun ls hl => ?_)
  refine lv_iconst hx hb dX6_doorsOf_2 jx_ki0 ?_
  obtain ⟨y2, ey2, h⟩ := jx_nx_some h
  refine jx_topi ey2 ?_
  refine lv_istore (lv' := [(4, .int y2), (2, .long y1), (0, .ref (ad 0)), (1, .int x1)]) hx hb dX6_doorsOf_3 hl (Nat.le_of_ble_eq_true rfl) rfl (fun ls hl => ?_)
  exact jm_doorsOf_h5_ok hX F F _ h _ _ _ hP hD hS (lv_sub hl [2, 3, 1, 0] rfl)
theorem jm_doorsOf_met {l : Launch} {D : va_G} {ck : Nat → ClassId} {ad sa : Nat → Nat} {A : Nat → Prop} {F : Nat} {x1 : Int32} {S : jm_S} {out : Int64 × jm_S} (h : jm_doorsOf F x1 S = some out) : jm_Ml l D ck ad sa A yX6_doorsOf cX6_doorsOf 5 (some .long) 2 [.int x1] S out :=
  jm_Ml_of ⟨by decide, rfl, Nat.le_of_ble_eq_true rfl⟩ (fun hX => jm_doorsOf_ok hX F x1 S h)
theorem jm_finds_d : yX6_finds.cls = RX6 ∧ yX6_finds.cls ≠ "java/lang/invoke/MethodHandle" ∧ yX6_finds.cls ≠ "java/lang/invoke/VarHandle" ∧ (parseMethodDescriptor yX6_finds.desc).map (fun d => d.parameters.length) = some 2 := by decide +kernel
theorem jm_finds_g : GoodIn lw_all (wsV RX6 396 RX6 yX6_finds (ws_ yX6_finds cX6_finds 8 none)) := lw_V q2033 q2035 qs90 q110 q2036
theorem jm_finds_b51_ok {out : jm_S} (hX : jm_Ok p R s m args meth c A D ck ad sa cX6_finds 8 none 9) (F : Nat) {r22 : Int64 × Int32 × jm_S → Option (jm_S)} (hr22 : ∀ a, r22 a = some out → jm_J p l e R s m args below meth c A D ck ad 8 (jm_Qv below args s A D ck ad sa out) 22 [(0, .ref (ad 0)), (3, .long a.1), (5, .int a.2.1)] [] a.2.2) (x3 : Int64) (x5 : Int32) (k0 : Int32) (k1 : Int32) (S : jm_S) (h : jm_finds_b51 F r22 x3 x5 k0 k1 S = some out) : jm_J p l e R s m args below meth c A D ck ad 8 (jm_Qv below args s A D ck ad sa out) 51 [(0, .ref (ad 0)), (3, .long x3), (5, .int x5)] [.int k0, .int k1, .ref (ad 37)] S := by
  intro H locs ls hP hD hS hl
  have hX0 := hX
  obtain ⟨hx, hb, hml, hown, hts, hlk, hr, hlv, hK, hZ⟩ := hX0
  unfold jm_finds_b51 at h
  obtain ⟨j1, ej1, bj1, h⟩ := jx_ga_some h
  obtain ⟨S2, eS2, h⟩ := jx_nx_some h
  refine jm_iast hx hb hK hP hD hS jm_a37 (fun f => jm_u37 f) ej1 bj1 eS2 dX6_finds_51 (fun H locs hP hD hS => ?_)
  obtain ⟨y3, ey3, h⟩ := jx_nx_some h
  refine lv_iinc (v := y3) (lv' := [(5, .int y3), (0, .ref (ad 0)), (3, .long x3)]) hx hb dX6_finds_52 hl (k := 2) rfl (jx_inc jx_ki1 ey3) (Nat.le_of_ble_eq_true rfl) rfl (fun ls hl => ?_)
  refine lv_goto (tgt := 22) hx hb dX6_finds_55 rfl ?_
  exact hr22 _ h _ _ _ hP hD hS (lv_sub hl [1, 2, 0] rfl)
theorem jm_finds_b145_ok {out : jm_S} (hX : jm_Ok p R s m args meth c A D ck ad sa cX6_finds 8 none 9) (F : Nat) {r61 : Int32 × jm_S → Option (jm_S)} (hr61 : ∀ a, r61 a = some out → jm_J p l e R s m args below meth c A D ck ad 8 (jm_Qv below args s A D ck ad sa out) 61 [(0, .ref (ad 0)), (5, .int a.1)] [] a.2) {r73 : Int32 × Int32 × jm_S → Option (jm_S)} (hr73 : ∀ a, r73 a = some out → jm_J p l e R s m args below meth c A D ck ad 8 (jm_Qv below args s A D ck ad sa out) 73 [(0, .ref (ad 0)), (5, .int a.1), (6, .int a.2.1)] [] a.2.2) {r98 : Int32 × Int32 × Int32 × jm_S → Option (jm_S)} (hr98 : ∀ a, r98 a = some out → jm_J p l e R s m args below meth c A D ck ad 8 (jm_Qv below args s A D ck ad sa out) 98 [(0, .ref (ad 0)), (5, .int a.1), (6, .int a.2.1), (7, .int a.2.2.1)] [] a.2.2.2) (x5 : Int32) (x6 : Int32) (x7 : Int32) (S : jm_S) (h : jm_finds_b145 F r61 r73 r98 x5 x6 x7 S = some out) : jm_J p l e R s m args below meth c A D ck ad 8 (jm_Qv below args s A D ck ad sa out) 145 [(0, .ref (ad 0)), (5, .int x5), (6, .int x6), (7, .int x7)] [] S := by
  intro H locs ls hP hD hS hl
  have hX0 := hX
  obtain ⟨hx, hb, hml, hown, hts, hlk, hr, hlv, hK, hZ⟩ := hX0
  unfold jm_finds_b145 at h
  obtain ⟨y1, ey1, h⟩ := jx_nx_some h
  refine lv_iinc (v := y1) (lv' := [(7, .int y1), (0, .ref (ad 0)), (5, .int x5), (6, .int x6)]) hx hb dX6_finds_145 hl (k := 3) rfl (jx_inc jx_ki1 ey1) (Nat.le_of_ble_eq_true rfl) rfl (fun ls hl => ?_)
  refine lv_goto (tgt := 98) hx hb dX6_finds_148 rfl ?_
  exact hr98 _ h _ _ _ hP hD hS (lv_sub hl [1, 2, 3, 0] rfl)
theorem jm_finds_b151_ok {out : jm_S} (hX : jm_Ok p R s m args meth c A D ck ad sa cX6_finds 8 none 9) (F : Nat) {r61 : Int32 × jm_S → Option (jm_S)} (hr61 : ∀ a, r61 a = some out → jm_J p l e R s m args below meth c A D ck ad 8 (jm_Qv below args s A D ck ad sa out) 61 [(0, .ref (ad 0)), (5, .int a.1)] [] a.2) {r73 : Int32 × Int32 × jm_S → Option (jm_S)} (hr73 : ∀ a, r73 a = some out → jm_J p l e R s m args below meth c A D ck ad 8 (jm_Qv below args s A D ck ad sa out) 73 [(0, .ref (ad 0)), (5, .int a.1), (6, .int a.2.1)] [] a.2.2) (x5 : Int32) (x6 : Int32) (S : jm_S) (h : jm_finds_b151 F r61 r73 x5 x6 S = some out) : jm_J p l e R s m args below meth c A D ck ad 8 (jm_Qv below args s A D ck ad sa out) 151 [(0, .ref (ad 0)), (5, .int x5), (6, .int x6)] [] S := by
  intro H locs ls hP hD hS hl
  have hX0 := hX
  obtain ⟨hx, hb, hml, hown, hts, hlk, hr, hlv, hK, hZ⟩ := hX0
  unfold jm_finds_b151 at h
  obtain ⟨y1, ey1, h⟩ := jx_nx_some h
  refine lv_iinc (v := y1) (lv' := [(6, .int y1), (0, .ref (ad 0)), (5, .int x5)]) hx hb dX6_finds_151 hl (k := 2) rfl (jx_inc jx_ki1 ey1) (Nat.le_of_ble_eq_true rfl) rfl (fun ls hl => ?_)
  refine lv_goto (tgt := 73) hx hb dX6_finds_154 rfl ?_
  exact hr73 _ h _ _ _ hP hD hS (lv_sub hl [1, 2, 0] rfl)
theorem jm_finds_L98_ok {out : jm_S} (hX : jm_Ok p R s m args meth c A D ck ad sa cX6_finds 8 none 9) (F : Nat) {r61 : Int32 × jm_S → Option (jm_S)} (hr61 : ∀ a, r61 a = some out → jm_J p l e R s m args below meth c A D ck ad 8 (jm_Qv below args s A D ck ad sa out) 61 [(0, .ref (ad 0)), (5, .int a.1)] [] a.2) {r73 : Int32 × Int32 × jm_S → Option (jm_S)} (hr73 : ∀ a, r73 a = some out → jm_J p l e R s m args below meth c A D ck ad 8 (jm_Qv below args s A D ck ad sa out) 73 [(0, .ref (ad 0)), (5, .int a.1), (6, .int a.2.1)] [] a.2.2) {r98 : Int32 × Int32 × Int32 × jm_S → Option (jm_S)} (hr98 : ∀ a, r98 a = some out → jm_J p l e R s m args below meth c A D ck ad 8 (jm_Qv below args s A D ck ad sa out) 98 [(0, .ref (ad 0)), (5, .int a.1), (6, .int a.2.1), (7, .int a.2.2.1)] [] a.2.2.2) (x5 : Int32) (x6 : Int32) (x7 : Int32) (S : jm_S) (h : jm_finds_L98 F r61 r73 r98 x5 x6 x7 S = some out) : jm_J p l e R s m args below meth c A D ck ad 8 (jm_Qv below args s A D ck ad sa out) 98 [(0, .ref (ad 0)), (5, .int x5), (6, .int x6), (7, .int x7)] [] S := by
  intro H locs ls hP hD hS hl
  have hX0 := hX
  obtain ⟨hx, hb, hml, hown, hts, hlk, hr, hlv, hK, hZ⟩ := hX0
  unfold jm_finds_L98 at h
  refine lv_iload hx hb dX6_finds_98 (lv_at hl 3 rfl) ?_
  refine lv_aload_n hx hb dX6_finds_100 rfl (lv_at hl 0 rfl) ?_
  obtain ⟨q1, eq1, h⟩ := jx_bi_some h
  refine jm_callI hx hb hml hown hts hlv hK hZ (jm_orders_met eq1) jm_orders_g jm_orders_d (As := []) (Nat.le_of_ble_eq_true rfl) (Nat.le_of_ble_eq_true rfl) hP hD hS hl.1 rfl rfl (lv_room (Nat.le_of_ble_eq_true rfl)) dX6_finds_101 (fun H locs hP hD hS => ?_)
  refine lv_icmp_ge (tgt := 151) hx hb dX6_finds_104 rfl (fun c2 => ?_) (fun c2 => ?_)
  · rw [if_pos c2] at h
    exact jm_finds_b151_ok hX F hr61 hr73 _ _ _ h _ _ _ hP hD hS (lv_sub hl [0, 1, 2] rfl)
  · rw [if_neg c2] at h
    refine lv_aload_n hx hb dX6_finds_107 rfl (lv_at hl 0 rfl) ?_
    refine jm_get hx hb hts hown hK hP jm_f35 (by decide) jm_g35 dX6_finds_108 ?_
    refine lv_iload hx hb dX6_finds_111 (lv_at hl 2 rfl) ?_
    obtain ⟨j3, ej3, bj3, h⟩ := jx_ga_some h
    refine jm_lald hx hb hK hP jm_a35 ej3 bj3 dX6_finds_113 ?_
    refine lv_iload hx hb dX6_finds_114 (lv_at hl 3 rfl) ?_
    obtain ⟨q4, eq4, h⟩ := jx_bi_some h
    refine jx_callSi hx hb hml hown hts (jm_has_met eq4) jm_has_g_X6 jm_has_d (As := [.long (q1.2.2.2 35 j3), .int x7]) (by rw [hlv]; decide) hl.1 rfl rfl (lv_room (Nat.le_of_ble_eq_true rfl)) dX6_finds_116 (by rw [hlv]; exact ⟨Nat.zero_le _, Nat.zero_le _⟩) ?_
    refine lv_if_eq (tgt := 145) hx hb dX6_finds_119 rfl (fun c5 => ?_) (fun c5 => ?_)
    · rw [if_pos c5] at h
      exact jm_finds_b145_ok hX F hr61 hr73 hr98 _ _ _ _ h _ _ _ hP hD hS hl
    · rw [if_neg c5] at h
      refine lv_aload_n hx hb dX6_finds_122 rfl (lv_at hl 0 rfl) ?_
      refine jm_get hx hb hts hown hK hP jm_f37 (by decide) jm_g37 dX6_finds_123 ?_
      refine lv_iload hx hb dX6_finds_126 (lv_at hl 3 rfl) ?_
      obtain ⟨j6, ej6, bj6, h⟩ := jx_ga_some h
      refine jm_iald hx hb hK hP jm_a37 ej6 bj6 dX6_finds_128 ?_
      refine lv_iload hx hb dX6_finds_129 (lv_at hl 1 rfl) ?_
      refine lv_iconst hx hb dX6_finds_131 jx_ki1 ?_
      refine lv_isub hx hb dX6_finds_132 ?_
      refine lv_icmp_ne (tgt := 145) hx hb dX6_finds_133 rfl (fun c7 => ?_) (fun c7 => ?_)
      · rw [if_neg c7] at h
        exact jm_finds_b145_ok hX F hr61 hr73 hr98 _ _ _ _ h _ _ _ hP hD hS hl
      · rw [if_pos c7] at h
        refine lv_aload_n hx hb dX6_finds_136 rfl (lv_at hl 0 rfl) ?_
        refine jm_get hx hb hts hown hK hP jm_f37 (by decide) jm_g37 dX6_finds_137 ?_
        refine lv_iload hx hb dX6_finds_140 (lv_at hl 2 rfl) ?_
        refine lv_iload hx hb dX6_finds_142 (lv_at hl 1 rfl) ?_
        obtain ⟨j8, ej8, bj8, h⟩ := jx_ga_some h
        obtain ⟨S9, eS9, h⟩ := jx_nx_some h
        refine jm_iast hx hb hK hP hD hS jm_a37 (fun f => jm_u37 f) ej8 bj8 eS9 dX6_finds_144 (fun H locs hP hD hS => ?_)
        exact jm_finds_b145_ok hX F hr61 hr73 hr98 _ _ _ _ h _ _ _ hP hD hS hl
theorem jm_finds_h98_ok {out : jm_S} (hX : jm_Ok p R s m args meth c A D ck ad sa cX6_finds 8 none 9) (F : Nat) {r61 : Int32 × jm_S → Option (jm_S)} (hr61 : ∀ a, r61 a = some out → jm_J p l e R s m args below meth c A D ck ad 8 (jm_Qv below args s A D ck ad sa out) 61 [(0, .ref (ad 0)), (5, .int a.1)] [] a.2) {r73 : Int32 × Int32 × jm_S → Option (jm_S)} (hr73 : ∀ a, r73 a = some out → jm_J p l e R s m args below meth c A D ck ad 8 (jm_Qv below args s A D ck ad sa out) 73 [(0, .ref (ad 0)), (5, .int a.1), (6, .int a.2.1)] [] a.2.2) (n : Nat) (a : Int32 × Int32 × Int32 × jm_S) (h : jm_finds_h98 F r61 r73 n a = some out) : jm_J p l e R s m args below meth c A D ck ad 8 (jm_Qv below args s A D ck ad sa out) 98 [(0, .ref (ad 0)), (5, .int a.1), (6, .int a.2.1), (7, .int a.2.2.1)] [] a.2.2.2 :=
  jx_loop_ind (J := fun a => jm_J p l e R s m args below meth c A D ck ad 8 (jm_Qv below args s A D ck ad sa out) 98 [(0, .ref (ad 0)), (5, .int a.1), (6, .int a.2.1), (7, .int a.2.2.1)] [] a.2.2.2) (fun r hr a h => jm_finds_L98_ok hX F hr61 hr73 hr a.1 a.2.1 a.2.2.1 a.2.2.2 h) n a h
theorem jm_finds_L73_ok {out : jm_S} (hX : jm_Ok p R s m args meth c A D ck ad sa cX6_finds 8 none 9) (F : Nat) {r61 : Int32 × jm_S → Option (jm_S)} (hr61 : ∀ a, r61 a = some out → jm_J p l e R s m args below meth c A D ck ad 8 (jm_Qv below args s A D ck ad sa out) 61 [(0, .ref (ad 0)), (5, .int a.1)] [] a.2) {r73 : Int32 × Int32 × jm_S → Option (jm_S)} (hr73 : ∀ a, r73 a = some out → jm_J p l e R s m args below meth c A D ck ad 8 (jm_Qv below args s A D ck ad sa out) 73 [(0, .ref (ad 0)), (5, .int a.1), (6, .int a.2.1)] [] a.2.2) (x5 : Int32) (x6 : Int32) (S : jm_S) (h : jm_finds_L73 F r61 r73 x5 x6 S = some out) : jm_J p l e R s m args below meth c A D ck ad 8 (jm_Qv below args s A D ck ad sa out) 73 [(0, .ref (ad 0)), (5, .int x5), (6, .int x6)] [] S := by
  intro H locs ls hP hD hS hl
  have hX0 := hX
  obtain ⟨hx, hb, hml, hown, hts, hlk, hr, hlv, hK, hZ⟩ := hX0
  unfold jm_finds_L73 at h
  refine lv_iload hx hb dX6_finds_73 (lv_at hl 2 rfl) ?_
  refine lv_aload_n hx hb dX6_finds_75 rfl (lv_at hl 0 rfl) ?_
  obtain ⟨q1, eq1, h⟩ := jx_bi_some h
  refine jm_callI hx hb hml hown hts hlv hK hZ (jm_orders_met eq1) jm_orders_g jm_orders_d (As := []) (Nat.le_of_ble_eq_true rfl) (Nat.le_of_ble_eq_true rfl) hP hD hS hl.1 rfl rfl (lv_room (Nat.le_of_ble_eq_true rfl)) dX6_finds_76 (fun H locs hP hD hS => ?_)
  refine lv_icmp_ge (tgt := 157) hx hb dX6_finds_79 rfl (fun c2 => ?_) (fun c2 => ?_)
  · rw [if_pos c2] at h
    obtain ⟨y3, ey3, h⟩ := jx_nx_some h
    refine lv_iinc (v := y3) (lv' := [(5, .int y3), (0, .ref (ad 0)), (6, .int x6)]) hx hb dX6_finds_157 hl (k := 1) rfl (jx_inc jx_ki1 ey3) (Nat.le_of_ble_eq_true rfl) rfl (fun ls hl => ?_)
    refine lv_goto (tgt := 61) hx hb dX6_finds_160 rfl ?_
    exact hr61 _ h _ _ _ hP hD hS (lv_sub hl [1, 0] rfl)
  · rw [if_neg c2] at h
    refine lv_aload_n hx hb dX6_finds_82 rfl (lv_at hl 0 rfl) ?_
    refine jm_get hx hb hts hown hK hP jm_f37 (by decide) jm_g37 dX6_finds_83 ?_
    refine lv_iload hx hb dX6_finds_86 (lv_at hl 2 rfl) ?_
    obtain ⟨j4, ej4, bj4, h⟩ := jx_ga_some h
    refine jm_iald hx hb hK hP jm_a37 ej4 bj4 dX6_finds_88 ?_
    refine lv_if_lt (tgt := 95) hx hb dX6_finds_89 rfl (fun c5 => ?_) (fun c5 => ?_)
    · rw [if_pos c5] at h
      refine lv_iconst hx hb dX6_finds_95 jx_ki0 ?_
      obtain ⟨y6, ey6, h⟩ := jx_nx_some h
      refine jx_topi ey6 ?_
      refine lv_istore (lv' := [(7, .int y6), (0, .ref (ad 0)), (5, .int x5), (6, .int x6)]) hx hb dX6_finds_96 hl (Nat.le_of_ble_eq_true rfl) rfl (fun ls hl => ?_)
      exact jm_finds_h98_ok hX F hr61 hr73 F _ h _ _ _ hP hD hS (lv_sub hl [1, 2, 3, 0] rfl)
    · rw [if_neg c5] at h
      refine lv_goto (tgt := 151) hx hb dX6_finds_92 rfl ?_
      exact jm_finds_b151_ok hX F hr61 hr73 _ _ _ h _ _ _ hP hD hS hl
theorem jm_finds_h73_ok {out : jm_S} (hX : jm_Ok p R s m args meth c A D ck ad sa cX6_finds 8 none 9) (F : Nat) {r61 : Int32 × jm_S → Option (jm_S)} (hr61 : ∀ a, r61 a = some out → jm_J p l e R s m args below meth c A D ck ad 8 (jm_Qv below args s A D ck ad sa out) 61 [(0, .ref (ad 0)), (5, .int a.1)] [] a.2) (n : Nat) (a : Int32 × Int32 × jm_S) (h : jm_finds_h73 F r61 n a = some out) : jm_J p l e R s m args below meth c A D ck ad 8 (jm_Qv below args s A D ck ad sa out) 73 [(0, .ref (ad 0)), (5, .int a.1), (6, .int a.2.1)] [] a.2.2 :=
  jx_loop_ind (J := fun a => jm_J p l e R s m args below meth c A D ck ad 8 (jm_Qv below args s A D ck ad sa out) 73 [(0, .ref (ad 0)), (5, .int a.1), (6, .int a.2.1)] [] a.2.2) (fun r hr a h => jm_finds_L73_ok hX F hr61 hr a.1 a.2.1 a.2.2 h) n a h
theorem jm_finds_b247_ok {out : jm_S} (hX : jm_Ok p R s m args meth c A D ck ad sa cX6_finds 8 none 9) (F : Nat) {r200 : Int32 × jm_S → Option (jm_S)} (hr200 : ∀ a, r200 a = some out → jm_J p l e R s m args below meth c A D ck ad 8 (jm_Qv below args s A D ck ad sa out) 200 [(0, .ref (ad 0)), (5, .int a.1)] [] a.2) {r213 : Int32 × Int32 × jm_S → Option (jm_S)} (hr213 : ∀ a, r213 a = some out → jm_J p l e R s m args below meth c A D ck ad 8 (jm_Qv below args s A D ck ad sa out) 213 [(0, .ref (ad 0)), (5, .int a.1), (6, .int a.2.1)] [] a.2.2) (x5 : Int32) (x6 : Int32) (S : jm_S) (h : jm_finds_b247 F r200 r213 x5 x6 S = some out) : jm_J p l e R s m args below meth c A D ck ad 8 (jm_Qv below args s A D ck ad sa out) 247 [(0, .ref (ad 0)), (5, .int x5), (6, .int x6)] [] S := by
  intro H locs ls hP hD hS hl
  have hX0 := hX
  obtain ⟨hx, hb, hml, hown, hts, hlk, hr, hlv, hK, hZ⟩ := hX0
  unfold jm_finds_b247 at h
  obtain ⟨y1, ey1, h⟩ := jx_nx_some h
  refine lv_iinc (v := y1) (lv' := [(6, .int y1), (0, .ref (ad 0)), (5, .int x5)]) hx hb dX6_finds_247 hl (k := 2) rfl (jx_inc jx_ki1 ey1) (Nat.le_of_ble_eq_true rfl) rfl (fun ls hl => ?_)
  refine lv_goto (tgt := 213) hx hb dX6_finds_250 rfl ?_
  exact hr213 _ h _ _ _ hP hD hS (lv_sub hl [1, 2, 0] rfl)
theorem jm_finds_L213_ok {out : jm_S} (hX : jm_Ok p R s m args meth c A D ck ad sa cX6_finds 8 none 9) (F : Nat) {r200 : Int32 × jm_S → Option (jm_S)} (hr200 : ∀ a, r200 a = some out → jm_J p l e R s m args below meth c A D ck ad 8 (jm_Qv below args s A D ck ad sa out) 200 [(0, .ref (ad 0)), (5, .int a.1)] [] a.2) {r213 : Int32 × Int32 × jm_S → Option (jm_S)} (hr213 : ∀ a, r213 a = some out → jm_J p l e R s m args below meth c A D ck ad 8 (jm_Qv below args s A D ck ad sa out) 213 [(0, .ref (ad 0)), (5, .int a.1), (6, .int a.2.1)] [] a.2.2) (x5 : Int32) (x6 : Int32) (S : jm_S) (h : jm_finds_L213 F r200 r213 x5 x6 S = some out) : jm_J p l e R s m args below meth c A D ck ad 8 (jm_Qv below args s A D ck ad sa out) 213 [(0, .ref (ad 0)), (5, .int x5), (6, .int x6)] [] S := by
  intro H locs ls hP hD hS hl
  have hX0 := hX
  obtain ⟨hx, hb, hml, hown, hts, hlk, hr, hlv, hK, hZ⟩ := hX0
  unfold jm_finds_L213 at h
  refine lv_aload_n hx hb dX6_finds_213 rfl (lv_at hl 0 rfl) ?_
  refine jm_get hx hb hts hown hK hP jm_f35 (by decide) jm_g35 dX6_finds_214 ?_
  refine lv_iload hx hb dX6_finds_217 (lv_at hl 1 rfl) ?_
  obtain ⟨j1, ej1, bj1, h⟩ := jx_ga_some h
  refine jm_lald hx hb hK hP jm_a35 ej1 bj1 dX6_finds_219 ?_
  refine lv_iload hx hb dX6_finds_220 (lv_at hl 2 rfl) ?_
  obtain ⟨q2, eq2, h⟩ := jx_bi_some h
  refine jx_callSi hx hb hml hown hts (jm_has_met eq2) jm_has_g_X6 jm_has_d (As := [.long (S.2.2 35 j1), .int x6]) (by rw [hlv]; decide) hl.1 rfl rfl (lv_room (Nat.le_of_ble_eq_true rfl)) dX6_finds_222 (by rw [hlv]; exact ⟨Nat.zero_le _, Nat.zero_le _⟩) ?_
  refine lv_if_eq (tgt := 247) hx hb dX6_finds_225 rfl (fun c3 => ?_) (fun c3 => ?_)
  · rw [if_pos c3] at h
    exact jm_finds_b247_ok hX F hr200 hr213 _ _ _ h _ _ _ hP hD hS hl
  · rw [if_neg c3] at h
    refine lv_aload_n hx hb dX6_finds_228 rfl (lv_at hl 0 rfl) ?_
    refine jm_get hx hb hts hown hK hP jm_f37 (by decide) jm_g37 dX6_finds_229 ?_
    refine lv_iload hx hb dX6_finds_232 (lv_at hl 2 rfl) ?_
    obtain ⟨j4, ej4, bj4, h⟩ := jx_ga_some h
    refine jm_iald hx hb hK hP jm_a37 ej4 bj4 dX6_finds_234 ?_
    refine lv_aload_n hx hb dX6_finds_235 rfl (lv_at hl 0 rfl) ?_
    refine jm_get hx hb hts hown hK hP jm_f37 (by decide) jm_g37 dX6_finds_236 ?_
    refine lv_iload hx hb dX6_finds_239 (lv_at hl 1 rfl) ?_
    obtain ⟨j5, ej5, bj5, h⟩ := jx_ga_some h
    refine jm_iald hx hb hK hP jm_a37 ej5 bj5 dX6_finds_241 ?_
    refine lv_iconst hx hb dX6_finds_242 jx_ki1 ?_
    refine lv_isub hx hb dX6_finds_243 ?_
    refine lv_icmp_eq (tgt := 253) hx hb dX6_finds_244 rfl (fun c6 => ?_) (fun c6 => ?_)
    · rw [if_pos c6] at h
      refine lv_iload hx hb dX6_finds_253 (lv_at hl 2 rfl) ?_
      refine lv_istore (lv' := [(5, .int x6), (0, .ref (ad 0)), (6, .int x6)]) hx hb dX6_finds_255 hl (Nat.le_of_ble_eq_true rfl) rfl (fun ls hl => ?_)
      refine lv_aload_n hx hb dX6_finds_257 rfl (lv_at hl 1 rfl) ?_
      refine jm_get hx hb hts hown hK hP jm_f36 (by decide) jm_g36 dX6_finds_258 ?_
      refine lv_aload_n hx hb dX6_finds_261 rfl (lv_at hl 1 rfl) ?_
      refine jm_get hx hb hts hown hK hP jm_f38 (by decide) jm_g38 dX6_finds_262 ?_
      refine lv_iload hx hb dX6_finds_265 (lv_at hl 0 rfl) ?_
      obtain ⟨j7, ej7, bj7, h⟩ := jx_ga_some h
      obtain ⟨S8, eS8, h⟩ := jx_nx_some h
      refine jm_iast hx hb hK hP hD hS jm_a36 (fun f => jm_u36 f) ej7 bj7 eS8 dX6_finds_267 (fun H locs hP hD hS => ?_)
      refine lv_aload_n hx hb dX6_finds_268 rfl (lv_at hl 1 rfl) ?_
      refine lv_dup hx hb dX6_finds_269 rfl ?_
      refine jm_get hx hb hts hown hK hP jm_f38 (by decide) jm_g38 dX6_finds_270 ?_
      refine lv_iconst hx hb dX6_finds_273 jx_ki1 ?_
      refine lv_iadd hx hb dX6_finds_274 ?_
      obtain ⟨S9, eS9, h⟩ := jx_nx_some h
      refine jm_put hx hb hts hown hK hP hD hS eS9 jm_f38 (by decide) jm_n38 jm_d38 jm_p38 dX6_finds_275 (fun H locs hP hD hS => ?_)
      refine lv_goto (tgt := 200) hx hb dX6_finds_278 rfl ?_
      exact hr200 _ h _ _ _ hP hD hS (lv_sub hl [1, 0] rfl)
    · rw [if_neg c6] at h
      exact jm_finds_b247_ok hX F hr200 hr213 _ _ _ h _ _ _ hP hD hS hl
theorem jm_finds_h213_ok {out : jm_S} (hX : jm_Ok p R s m args meth c A D ck ad sa cX6_finds 8 none 9) (F : Nat) {r200 : Int32 × jm_S → Option (jm_S)} (hr200 : ∀ a, r200 a = some out → jm_J p l e R s m args below meth c A D ck ad 8 (jm_Qv below args s A D ck ad sa out) 200 [(0, .ref (ad 0)), (5, .int a.1)] [] a.2) (n : Nat) (a : Int32 × Int32 × jm_S) (h : jm_finds_h213 F r200 n a = some out) : jm_J p l e R s m args below meth c A D ck ad 8 (jm_Qv below args s A D ck ad sa out) 213 [(0, .ref (ad 0)), (5, .int a.1), (6, .int a.2.1)] [] a.2.2 :=
  jx_loop_ind (J := fun a => jm_J p l e R s m args below meth c A D ck ad 8 (jm_Qv below args s A D ck ad sa out) 213 [(0, .ref (ad 0)), (5, .int a.1), (6, .int a.2.1)] [] a.2.2) (fun r hr a h => jm_finds_L213_ok hX F hr200 hr a.1 a.2.1 a.2.2 h) n a h
theorem jm_finds_L200_ok {out : jm_S} (hX : jm_Ok p R s m args meth c A D ck ad sa cX6_finds 8 none 9) (F : Nat) {r200 : Int32 × jm_S → Option (jm_S)} (hr200 : ∀ a, r200 a = some out → jm_J p l e R s m args below meth c A D ck ad 8 (jm_Qv below args s A D ck ad sa out) 200 [(0, .ref (ad 0)), (5, .int a.1)] [] a.2) (x5 : Int32) (S : jm_S) (h : jm_finds_L200 F r200 x5 S = some out) : jm_J p l e R s m args below meth c A D ck ad 8 (jm_Qv below args s A D ck ad sa out) 200 [(0, .ref (ad 0)), (5, .int x5)] [] S := by
  intro H locs ls hP hD hS hl
  have hX0 := hX
  obtain ⟨hx, hb, hml, hown, hts, hlk, hr, hlv, hK, hZ⟩ := hX0
  unfold jm_finds_L200 at h
  refine lv_aload_n hx hb dX6_finds_200 rfl (lv_at hl 0 rfl) ?_
  refine jm_get hx hb hts hown hK hP jm_f37 (by decide) jm_g37 dX6_finds_201 ?_
  refine lv_iload hx hb dX6_finds_204 (lv_at hl 1 rfl) ?_
  obtain ⟨j1, ej1, bj1, h⟩ := jx_ga_some h
  refine jm_iald hx hb hK hP jm_a37 ej1 bj1 dX6_finds_206 ?_
  refine lv_if_le (tgt := 281) hx hb dX6_finds_207 rfl (fun c2 => ?_) (fun c2 => ?_)
  · rw [if_pos c2] at h
    exact jm_vret hx hb hr hlk hK hZ hP hD hS h dX6_finds_281
  · rw [if_neg c2] at h
    refine lv_iconst hx hb dX6_finds_210 jx_ki0 ?_
    obtain ⟨y3, ey3, h⟩ := jx_nx_some h
    refine jx_topi ey3 ?_
    refine lv_istore (lv' := [(6, .int y3), (0, .ref (ad 0)), (5, .int x5)]) hx hb dX6_finds_211 hl (Nat.le_of_ble_eq_true rfl) rfl (fun ls hl => ?_)
    exact jm_finds_h213_ok hX F hr200 F _ h _ _ _ hP hD hS (lv_sub hl [1, 2, 0] rfl)
theorem jm_finds_h200_ok {out : jm_S} (hX : jm_Ok p R s m args meth c A D ck ad sa cX6_finds 8 none 9) (F : Nat) (n : Nat) (a : Int32 × jm_S) (h : jm_finds_h200 F n a = some out) : jm_J p l e R s m args below meth c A D ck ad 8 (jm_Qv below args s A D ck ad sa out) 200 [(0, .ref (ad 0)), (5, .int a.1)] [] a.2 :=
  jx_loop_ind (J := fun a => jm_J p l e R s m args below meth c A D ck ad 8 (jm_Qv below args s A D ck ad sa out) 200 [(0, .ref (ad 0)), (5, .int a.1)] [] a.2) (fun r hr a h => jm_finds_L200_ok hX F hr a.1 a.2 h) n a h
theorem jm_finds_L61_ok {out : jm_S} (hX : jm_Ok p R s m args meth c A D ck ad sa cX6_finds 8 none 9) (F : Nat) {r61 : Int32 × jm_S → Option (jm_S)} (hr61 : ∀ a, r61 a = some out → jm_J p l e R s m args below meth c A D ck ad 8 (jm_Qv below args s A D ck ad sa out) 61 [(0, .ref (ad 0)), (5, .int a.1)] [] a.2) (x5 : Int32) (S : jm_S) (h : jm_finds_L61 F r61 x5 S = some out) : jm_J p l e R s m args below meth c A D ck ad 8 (jm_Qv below args s A D ck ad sa out) 61 [(0, .ref (ad 0)), (5, .int x5)] [] S := by
  intro H locs ls hP hD hS hl
  have hX0 := hX
  obtain ⟨hx, hb, hml, hown, hts, hlk, hr, hlv, hK, hZ⟩ := hX0
  unfold jm_finds_L61 at h
  refine lv_iload hx hb dX6_finds_61 (lv_at hl 1 rfl) ?_
  refine lv_aload_n hx hb dX6_finds_63 rfl (lv_at hl 0 rfl) ?_
  obtain ⟨q1, eq1, h⟩ := jx_bi_some h
  refine jm_callI hx hb hml hown hts hlv hK hZ (jm_orders_met eq1) jm_orders_g jm_orders_d (As := []) (Nat.le_of_ble_eq_true rfl) (Nat.le_of_ble_eq_true rfl) hP hD hS hl.1 rfl rfl (lv_room (Nat.le_of_ble_eq_true rfl)) dX6_finds_64 (fun H locs hP hD hS => ?_)
  refine lv_icmp_gt (tgt := 163) hx hb dX6_finds_67 rfl (fun c2 => ?_) (fun c2 => ?_)
  · rw [if_pos c2] at h
    refine lv_aload_n hx hb dX6_finds_163 rfl (lv_at hl 0 rfl) ?_
    refine lv_iconst hx hb dX6_finds_164 jx_ki0 ?_
    obtain ⟨S3, eS3, h⟩ := jx_nx_some h
    refine jm_put hx hb hts hown hK hP hD hS eS3 jm_f38 (by decide) jm_n38 jm_d38 jm_p38 dX6_finds_165 (fun H locs hP hD hS => ?_)
    refine lv_aload_n hx hb dX6_finds_168 rfl (lv_at hl 0 rfl) ?_
    obtain ⟨q4, eq4, h⟩ := jx_bi_some h
    refine jm_callI hx hb hml hown hts hlv hK hZ (jm_orders_met eq4) jm_orders_g jm_orders_d (As := []) (Nat.le_of_ble_eq_true rfl) (Nat.le_of_ble_eq_true rfl) hP hD hS hl.1 rfl rfl (lv_room (Nat.le_of_ble_eq_true rfl)) dX6_finds_169 (fun H locs hP hD hS => ?_)
    refine lv_if_eq (tgt := 184) hx hb dX6_finds_172 rfl (fun c5 => ?_) (fun c5 => ?_)
    · rw [if_pos c5] at h
      exact jm_vret hx hb hr hlk hK hZ hP hD hS h dX6_finds_184
    · rw [if_neg c5] at h
      refine lv_aload_n hx hb dX6_finds_175 rfl (lv_at hl 0 rfl) ?_
      refine jm_get hx hb hts hown hK hP jm_f37 (by decide) jm_g37 dX6_finds_176 ?_
      refine lv_iconst hx hb dX6_finds_179 jx_ki0 ?_
      obtain ⟨j6, ej6, bj6, h⟩ := jx_ga_some h
      refine jm_iald hx hb hK hP jm_a37 ej6 bj6 dX6_finds_180 ?_
      refine lv_if_ge (tgt := 185) hx hb dX6_finds_181 rfl (fun c7 => ?_) (fun c7 => ?_)
      · rw [if_pos c7] at h
        refine lv_iconst hx hb dX6_finds_185 jx_ki0 ?_
        obtain ⟨y8, ey8, h⟩ := jx_nx_some h
        refine jx_topi ey8 ?_
        refine lv_istore (lv' := [(5, .int y8), (0, .ref (ad 0))]) hx hb dX6_finds_186 hl (Nat.le_of_ble_eq_true rfl) rfl (fun ls hl => ?_)
        refine lv_aload_n hx hb dX6_finds_188 rfl (lv_at hl 1 rfl) ?_
        refine jm_get hx hb hts hown hK hP jm_f36 (by decide) jm_g36 dX6_finds_189 ?_
        refine lv_iconst hx hb dX6_finds_192 jx_ki0 ?_
        refine lv_iconst hx hb dX6_finds_193 jx_ki0 ?_
        obtain ⟨j9, ej9, bj9, h⟩ := jx_ga_some h
        obtain ⟨S10, eS10, h⟩ := jx_nx_some h
        refine jm_iast hx hb hK hP hD hS jm_a36 (fun f => jm_u36 f) ej9 bj9 eS10 dX6_finds_194 (fun H locs hP hD hS => ?_)
        refine lv_aload_n hx hb dX6_finds_195 rfl (lv_at hl 1 rfl) ?_
        refine lv_iconst hx hb dX6_finds_196 jx_ki1 ?_
        obtain ⟨S11, eS11, h⟩ := jx_nx_some h
        refine jm_put hx hb hts hown hK hP hD hS eS11 jm_f38 (by decide) jm_n38 jm_d38 jm_p38 dX6_finds_197 (fun H locs hP hD hS => ?_)
        exact jm_finds_h200_ok hX F F _ h _ _ _ hP hD hS (lv_sub hl [1, 0] rfl)
      · rw [if_neg c7] at h
        exact jm_vret hx hb hr hlk hK hZ hP hD hS h dX6_finds_184
  · rw [if_neg c2] at h
    refine lv_iconst hx hb dX6_finds_70 jx_ki0 ?_
    obtain ⟨y12, ey12, h⟩ := jx_nx_some h
    refine jx_topi ey12 ?_
    refine lv_istore (lv' := [(6, .int y12), (0, .ref (ad 0)), (5, .int x5)]) hx hb dX6_finds_71 hl (Nat.le_of_ble_eq_true rfl) rfl (fun ls hl => ?_)
    exact jm_finds_h73_ok hX F hr61 F _ h _ _ _ hP hD hS (lv_sub hl [1, 2, 0] rfl)
theorem jm_finds_h61_ok {out : jm_S} (hX : jm_Ok p R s m args meth c A D ck ad sa cX6_finds 8 none 9) (F : Nat) (n : Nat) (a : Int32 × jm_S) (h : jm_finds_h61 F n a = some out) : jm_J p l e R s m args below meth c A D ck ad 8 (jm_Qv below args s A D ck ad sa out) 61 [(0, .ref (ad 0)), (5, .int a.1)] [] a.2 :=
  jx_loop_ind (J := fun a => jm_J p l e R s m args below meth c A D ck ad 8 (jm_Qv below args s A D ck ad sa out) 61 [(0, .ref (ad 0)), (5, .int a.1)] [] a.2) (fun r hr a h => jm_finds_L61_ok hX F hr a.1 a.2 h) n a h
theorem jm_finds_L22_ok {out : jm_S} (hX : jm_Ok p R s m args meth c A D ck ad sa cX6_finds 8 none 9) (F : Nat) {r22 : Int64 × Int32 × jm_S → Option (jm_S)} (hr22 : ∀ a, r22 a = some out → jm_J p l e R s m args below meth c A D ck ad 8 (jm_Qv below args s A D ck ad sa out) 22 [(0, .ref (ad 0)), (3, .long a.1), (5, .int a.2.1)] [] a.2.2) (x3 : Int64) (x5 : Int32) (S : jm_S) (h : jm_finds_L22 F r22 x3 x5 S = some out) : jm_J p l e R s m args below meth c A D ck ad 8 (jm_Qv below args s A D ck ad sa out) 22 [(0, .ref (ad 0)), (3, .long x3), (5, .int x5)] [] S := by
  intro H locs ls hP hD hS hl
  have hX0 := hX
  obtain ⟨hx, hb, hml, hown, hts, hlk, hr, hlv, hK, hZ⟩ := hX0
  unfold jm_finds_L22 at h
  refine lv_iload hx hb dX6_finds_22 (lv_at hl 2 rfl) ?_
  refine lv_aload_n hx hb dX6_finds_24 rfl (lv_at hl 0 rfl) ?_
  obtain ⟨q1, eq1, h⟩ := jx_bi_some h
  refine jm_callI hx hb hml hown hts hlv hK hZ (jm_orders_met eq1) jm_orders_g jm_orders_d (As := []) (Nat.le_of_ble_eq_true rfl) (Nat.le_of_ble_eq_true rfl) hP hD hS hl.1 rfl rfl (lv_room (Nat.le_of_ble_eq_true rfl)) dX6_finds_25 (fun H locs hP hD hS => ?_)
  refine lv_icmp_ge (tgt := 58) hx hb dX6_finds_28 rfl (fun c2 => ?_) (fun c2 => ?_)
  · rw [if_pos c2] at h
    refine lv_iconst hx hb dX6_finds_58 jx_ki1 ?_
    obtain ⟨y3, ey3, h⟩ := jx_nx_some h
    refine jx_topi ey3 ?_
    refine lv_istore (lv' := [(5, .int y3), (0, .ref (ad 0)), (3, .long x3)]) hx hb dX6_finds_59 hl (Nat.le_of_ble_eq_true rfl) rfl (fun ls hl => ?_)
    exact jm_finds_h61_ok hX F F _ h _ _ _ hP hD hS (lv_sub hl [1, 0] rfl)
  · rw [if_neg c2] at h
    refine lv_aload_n hx hb dX6_finds_31 rfl (lv_at hl 0 rfl) ?_
    refine jm_get hx hb hts hown hK hP jm_f37 (by decide) jm_g37 dX6_finds_32 ?_
    refine lv_iload hx hb dX6_finds_35 (lv_at hl 2 rfl) ?_
    refine lv_lload_n hx hb dX6_finds_37 rfl (lv_at hl 1 rfl) ?_
    refine lv_iload hx hb dX6_finds_38 (lv_at hl 2 rfl) ?_
    obtain ⟨q4, eq4, h⟩ := jx_bi_some h
    refine jx_callSi hx hb hml hown hts (jm_has_met eq4) jm_has_g_X6 jm_has_d (As := [.long x3, .int x5]) (by rw [hlv]; decide) hl.1 rfl rfl (lv_room (Nat.le_of_ble_eq_true rfl)) dX6_finds_40 (by rw [hlv]; exact ⟨Nat.zero_le _, Nat.zero_le _⟩) ?_
    refine lv_if_eq (tgt := 50) hx hb dX6_finds_43 rfl (fun c5 => ?_) (fun c5 => ?_)
    · rw [if_pos c5] at h
      refine lv_iconst hx hb dX6_finds_50 jx_kim1 ?_
      exact jm_finds_b51_ok hX F hr22 _ _ _ _ _ h _ _ _ hP hD hS hl
    · rw [if_neg c5] at h
      refine lv_iconst hx hb dX6_finds_46 jx_ki0 ?_
      refine lv_goto (tgt := 51) hx hb dX6_finds_47 rfl ?_
      exact jm_finds_b51_ok hX F hr22 _ _ _ _ _ h _ _ _ hP hD hS hl
theorem jm_finds_h22_ok {out : jm_S} (hX : jm_Ok p R s m args meth c A D ck ad sa cX6_finds 8 none 9) (F : Nat) (n : Nat) (a : Int64 × Int32 × jm_S) (h : jm_finds_h22 F n a = some out) : jm_J p l e R s m args below meth c A D ck ad 8 (jm_Qv below args s A D ck ad sa out) 22 [(0, .ref (ad 0)), (3, .long a.1), (5, .int a.2.1)] [] a.2.2 :=
  jx_loop_ind (J := fun a => jm_J p l e R s m args below meth c A D ck ad 8 (jm_Qv below args s A D ck ad sa out) 22 [(0, .ref (ad 0)), (3, .long a.1), (5, .int a.2.1)] [] a.2.2) (fun r hr a h => jm_finds_L22_ok hX F hr a.1 a.2.1 a.2.2 h) n a h
theorem jm_finds_ok {out : jm_S} (hX : jm_Ok p R s m args meth c A D ck ad sa cX6_finds 8 none 9) (F : Nat) (x1 : Int32) (x2 : Int32) (S : jm_S) (h : jm_finds F x1 x2 S = some out) : jm_J p l e R s m args below meth c A D ck ad 8 (jm_Qv below args s A D ck ad sa out) 0 [(0, .ref (ad 0)), (1, .int x1), (2, .int x2)] [] S := by
  intro H locs ls hP hD hS hl
  have hX0 := hX
  obtain ⟨hx, hb, hml, hown, hts, hlk, hr, hlv, hK, hZ⟩ := hX0
  unfold jm_finds at h
  refine lv_aload_n hx hb dX6_finds_0 rfl (lv_at hl 0 rfl) ?_
  obtain ⟨q1, eq1, h⟩ := jx_bi_some h
  refine jm_callV hx hb hml hown hts hlv hK hZ (jm_flows_met eq1) jm_flows_g jm_flows_d (As := []) (Nat.le_of_ble_eq_true rfl) (Nat.le_of_ble_eq_true rfl) hP hD hS hl.1 rfl rfl (lv_room (Nat.le_of_ble_eq_true rfl)) dX6_finds_1 (fun H locs hP hD hS => ?_)
  refine lv_aload_n hx hb dX6_finds_4 rfl (lv_at hl 0 rfl) ?_
  obtain ⟨q2, eq2, h⟩ := jx_bi_some h
  refine jm_callV hx hb hml hown hts hlv hK hZ (jm_gradesNow_met eq2) jm_gradesNow_g jm_gradesNow_d (As := []) (Nat.le_of_ble_eq_true rfl) (Nat.le_of_ble_eq_true rfl) hP hD hS hl.1 rfl rfl (lv_room (Nat.le_of_ble_eq_true rfl)) dX6_finds_5 (fun H locs hP hD hS => ?_)
  refine lv_aload_n hx hb dX6_finds_8 rfl (lv_at hl 0 rfl) ?_
  refine lv_iload_n hx hb dX6_finds_9 rfl (lv_at hl 1 rfl) ?_
  obtain ⟨q3, eq3, h⟩ := jx_bi_some h
  refine jm_callV hx hb hml hown hts hlv hK hZ (jm_ways_met eq3) jm_ways_g jm_ways_d (As := [.int x1]) (Nat.le_of_ble_eq_true rfl) (Nat.le_of_ble_eq_true rfl) hP hD hS hl.1 rfl rfl (lv_room (Nat.le_of_ble_eq_true rfl)) dX6_finds_10 (fun H locs hP hD hS => ?_)
  refine lv_aload_n hx hb dX6_finds_13 rfl (lv_at hl 0 rfl) ?_
  refine lv_iload_n hx hb dX6_finds_14 rfl (lv_at hl 2 rfl) ?_
  obtain ⟨q4, eq4, h⟩ := jx_bi_some h
  refine jm_callL hx hb hml hown hts hlv hK hZ (jm_doorsOf_met eq4) jm_doorsOf_g jm_doorsOf_d (As := [.int x2]) (Nat.le_of_ble_eq_true rfl) (Nat.le_of_ble_eq_true rfl) hP hD hS hl.1 rfl rfl (lv_room (Nat.le_of_ble_eq_true rfl)) dX6_finds_15 (fun H locs hP hD hS => ?_)
  obtain ⟨y5, ey5, h⟩ := jx_nx_some h
  refine jx_topl ey5 ?_
  refine lv_lstore_n (lv' := [(3, .long y5), (0, .ref (ad 0)), (1, .int x1), (2, .int x2)]) hx hb dX6_finds_18 rfl hl (Nat.le_of_ble_eq_true rfl) rfl (fun ls hl => ?_)
  refine lv_iconst hx hb dX6_finds_19 jx_ki0 ?_
  obtain ⟨y6, ey6, h⟩ := jx_nx_some h
  refine jx_topi ey6 ?_
  refine lv_istore (lv' := [(5, .int y6), (3, .long y5), (0, .ref (ad 0)), (1, .int x1), (2, .int x2)]) hx hb dX6_finds_20 hl (Nat.le_of_ble_eq_true rfl) rfl (fun ls hl => ?_)
  exact jm_finds_h22_ok hX F F _ h _ _ _ hP hD hS (lv_sub hl [2, 1, 0] rfl)
theorem jm_finds_met {l : Launch} {D : va_G} {ck : Nat → ClassId} {ad sa : Nat → Nat} {A : Nat → Prop} {F : Nat} {x1 : Int32} {x2 : Int32} {S : jm_S} {out : jm_S} (h : jm_finds F x1 x2 S = some out) : jm_Mv l D ck ad sa A yX6_finds cX6_finds 8 none 9 [.int x1, .int x2] S out :=
  jm_Mv_of ⟨by decide, rfl, Nat.le_of_ble_eq_true rfl⟩ (fun hX => jm_finds_ok hX F x1 x2 S h)
theorem jm_bendsAtom_d : yX6_bendsAtom.cls = RX6 ∧ yX6_bendsAtom.cls ≠ "java/lang/invoke/MethodHandle" ∧ yX6_bendsAtom.cls ≠ "java/lang/invoke/VarHandle" ∧ (parseMethodDescriptor yX6_bendsAtom.desc).map (fun d => d.parameters.length) = some 2 := by decide +kernel
theorem jm_bendsAtom_g : GoodIn lw_all (wsV RX6 385 RX6 yX6_bendsAtom (ws_ yX6_bendsAtom cX6_bendsAtom 3 (some .boolean))) := lw_V q2049 q2051 qs94 q110 q2052
theorem jm_bendsAtom_ok {out : Int32 × jm_S} (hX : jm_Ok p R s m args meth c A D ck ad sa cX6_bendsAtom 3 (some .boolean) 1) (F : Nat) (x1 : Int32) (x2 : Int32) (S : jm_S) (h : jm_bendsAtom F x1 x2 S = some out) : jm_J p l e R s m args below meth c A D ck ad 3 (jm_Qi below args s A D ck ad sa out) 0 [(0, .ref (ad 0)), (1, .int x1), (2, .int x2)] [] S := by
  intro H locs ls hP hD hS hl
  have hX0 := hX
  obtain ⟨hx, hb, hml, hown, hts, hlk, hr, hlv, hK, hZ⟩ := hX0
  unfold jm_bendsAtom at h
  refine lv_iload_n hx hb dX6_bendsAtom_0 rfl (lv_at hl 2 rfl) ?_
  refine lv_sipush hx hb dX6_bendsAtom_1 jx_ks1000 ?_
  refine lv_icmp_lt (tgt := 24) hx hb dX6_bendsAtom_4 rfl (fun c1 => ?_) (fun c1 => ?_)
  · rw [if_pos c1] at h
    refine lv_iconst hx hb dX6_bendsAtom_24 jx_ki0 ?_
    exact jm_zret hx hb hr hlk hK hZ hP hD hS jx_nz0 h dX6_bendsAtom_25
  · rw [if_neg c1] at h
    refine lv_aload_n hx hb dX6_bendsAtom_7 rfl (lv_at hl 0 rfl) ?_
    refine lv_iload_n hx hb dX6_bendsAtom_8 rfl (lv_at hl 1 rfl) ?_
    refine lv_iload_n hx hb dX6_bendsAtom_9 rfl (lv_at hl 2 rfl) ?_
    refine lv_sipush hx hb dX6_bendsAtom_10 jx_ks1000 ?_
    refine lv_isub hx hb dX6_bendsAtom_13 ?_
    obtain ⟨q2, eq2, h⟩ := jx_bi_some h
    refine jm_callI hx hb hml hown hts hlv hK hZ (jm_bendsCell_met eq2) jm_bendsCell_g jm_bendsCell_d (As := [.int x1, .int (x2 - (nI 1000))]) (Nat.le_of_ble_eq_true rfl) (Nat.le_of_ble_eq_true rfl) hP hD hS hl.1 rfl rfl (lv_room (Nat.le_of_ble_eq_true rfl)) dX6_bendsAtom_14 (fun H locs hP hD hS => ?_)
    refine lv_if_eq (tgt := 24) hx hb dX6_bendsAtom_17 rfl (fun c3 => ?_) (fun c3 => ?_)
    · rw [if_pos c3] at h
      refine lv_iconst hx hb dX6_bendsAtom_24 jx_ki0 ?_
      exact jm_zret hx hb hr hlk hK hZ hP hD hS jx_nz0 h dX6_bendsAtom_25
    · rw [if_neg c3] at h
      refine lv_iconst hx hb dX6_bendsAtom_20 jx_ki1 ?_
      refine lv_goto (tgt := 25) hx hb dX6_bendsAtom_21 rfl ?_
      exact jm_zret hx hb hr hlk hK hZ hP hD hS jx_nz1 h dX6_bendsAtom_25
theorem jm_bendsAtom_met {l : Launch} {D : va_G} {ck : Nat → ClassId} {ad sa : Nat → Nat} {A : Nat → Prop} {F : Nat} {x1 : Int32} {x2 : Int32} {S : jm_S} {out : Int32 × jm_S} (h : jm_bendsAtom F x1 x2 S = some out) : jm_Mi l D ck ad sa A yX6_bendsAtom cX6_bendsAtom 3 (some .boolean) 1 [.int x1, .int x2] S out :=
  jm_Mi_of ⟨by decide, rfl, Nat.le_of_ble_eq_true rfl⟩ (fun hX => jm_bendsAtom_ok hX F x1 x2 S h)
theorem jm_bendsIf_d : yX6_bendsIf.cls = RX6 ∧ yX6_bendsIf.cls ≠ "java/lang/invoke/MethodHandle" ∧ yX6_bendsIf.cls ≠ "java/lang/invoke/VarHandle" ∧ (parseMethodDescriptor yX6_bendsIf.desc).map (fun d => d.parameters.length) = some 3 := by decide +kernel
theorem jm_bendsIf_g : GoodIn lw_all (wsV RX6 388 RX6 yX6_bendsIf (ws_ yX6_bendsIf cX6_bendsIf 8 none)) := lw_V q2053 q2055 qs95 q110 q2056
theorem jm_bendsIf_b145_ok {out : jm_S} (hX : jm_Ok p R s m args meth c A D ck ad sa cX6_bendsIf 8 none 2) (F : Nat) (x5 : Int32) (x7 : Int32) (k0 : Int32) (k1 : Int32) (S : jm_S) (h : jm_bendsIf_b145 F x5 x7 k0 k1 S = some out) : jm_J p l e R s m args below meth c A D ck ad 8 (jm_Qv below args s A D ck ad sa out) 145 [(0, .ref (ad 0)), (5, .int x5), (7, .int x7)] [.int k0, .int k1, .ref (ad 0), .ref (ad 16)] S := by
  intro H locs ls hP hD hS hl
  have hX0 := hX
  obtain ⟨hx, hb, hml, hown, hts, hlk, hr, hlv, hK, hZ⟩ := hX0
  unfold jm_bendsIf_b145 at h
  obtain ⟨q1, eq1, h⟩ := jx_bi_some h
  refine jm_callI hx hb hml hown hts hlv hK hZ (jm_of_met eq1) jm_of_g jm_of_d (As := [.int k1, .int k0]) (Nat.le_of_ble_eq_true rfl) (Nat.le_of_ble_eq_true rfl) hP hD hS hl.1 rfl rfl (lv_room (Nat.le_of_ble_eq_true rfl)) dX6_bendsIf_145 (fun H locs hP hD hS => ?_)
  refine lv_sipush hx hb dX6_bendsIf_148 jx_ks1000 ?_
  refine lv_isub hx hb dX6_bendsIf_151 ?_
  refine lv_iload hx hb dX6_bendsIf_152 (lv_at hl 1 rfl) ?_
  refine lv_iload hx hb dX6_bendsIf_154 (lv_at hl 2 rfl) ?_
  refine lv_iadd hx hb dX6_bendsIf_156 ?_
  obtain ⟨j2, ej2, bj2, h⟩ := jx_ga_some h
  obtain ⟨S3, eS3, h⟩ := jx_nx_some h
  refine jm_iast hx hb hK hP hD hS jm_a16 (fun f => jm_u16 f) ej2 bj2 eS3 dX6_bendsIf_157 (fun H locs hP hD hS => ?_)
  exact jm_vret hx hb hr hlk hK hZ hP hD hS h dX6_bendsIf_158
theorem jm_bendsIf_b125_ok {out : jm_S} (hX : jm_Ok p R s m args meth c A D ck ad sa cX6_bendsIf 8 none 2) (F : Nat) (x2 : Int32) (x4 : Int32) (x5 : Int32) (k0 : Int32) (S : jm_S) (h : jm_bendsIf_b125 F x2 x4 x5 k0 S = some out) : jm_J p l e R s m args below meth c A D ck ad 8 (jm_Qv below args s A D ck ad sa out) 125 [(0, .ref (ad 0)), (2, .int x2), (4, .int x4), (5, .int x5)] [.int k0] S := by
  intro H locs ls hP hD hS hl
  have hX0 := hX
  obtain ⟨hx, hb, hml, hown, hts, hlk, hr, hlv, hK, hZ⟩ := hX0
  unfold jm_bendsIf_b125 at h
  refine lv_istore (lv' := [(7, .int k0), (0, .ref (ad 0)), (2, .int x2), (4, .int x4), (5, .int x5)]) hx hb dX6_bendsIf_125 hl (Nat.le_of_ble_eq_true rfl) rfl (fun ls hl => ?_)
  refine lv_aload_n hx hb dX6_bendsIf_127 rfl (lv_at hl 1 rfl) ?_
  refine jm_get hx hb hts hown hK hP jm_f16 (by decide) jm_g16 dX6_bendsIf_128 ?_
  refine lv_aload_n hx hb dX6_bendsIf_131 rfl (lv_at hl 1 rfl) ?_
  refine lv_iload_n hx hb dX6_bendsIf_132 rfl (lv_at hl 2 rfl) ?_
  refine lv_iload hx hb dX6_bendsIf_133 (lv_at hl 3 rfl) ?_
  refine lv_if_eq (tgt := 143) hx hb dX6_bendsIf_135 rfl (fun c1 => ?_) (fun c1 => ?_)
  · rw [if_pos c1] at h
    refine lv_bipush hx hb dX6_bendsIf_143 jx_kb7 ?_
    exact jm_bendsIf_b145_ok hX F _ _ _ _ _ h _ _ _ hP hD hS (lv_sub hl [1, 4, 0] rfl)
  · rw [if_neg c1] at h
    refine lv_bipush hx hb dX6_bendsIf_138 jx_kb6 ?_
    refine lv_goto (tgt := 145) hx hb dX6_bendsIf_140 rfl ?_
    exact jm_bendsIf_b145_ok hX F _ _ _ _ _ h _ _ _ hP hD hS (lv_sub hl [1, 4, 0] rfl)
theorem jm_bendsIf_b115_ok {out : jm_S} (hX : jm_Ok p R s m args meth c A D ck ad sa cX6_bendsIf 8 none 2) (F : Nat) (x2 : Int32) (x4 : Int32) (x5 : Int32) (k0 : Int32) (S : jm_S) (h : jm_bendsIf_b115 F x2 x4 x5 k0 S = some out) : jm_J p l e R s m args below meth c A D ck ad 8 (jm_Qv below args s A D ck ad sa out) 115 [(0, .ref (ad 0)), (2, .int x2), (4, .int x4), (5, .int x5)] [.int k0] S := by
  intro H locs ls hP hD hS hl
  have hX0 := hX
  obtain ⟨hx, hb, hml, hown, hts, hlk, hr, hlv, hK, hZ⟩ := hX0
  unfold jm_bendsIf_b115 at h
  refine lv_iload hx hb dX6_bendsIf_115 (lv_at hl 2 rfl) ?_
  refine lv_icmp_ne (tgt := 124) hx hb dX6_bendsIf_117 rfl (fun c1 => ?_) (fun c1 => ?_)
  · rw [if_neg c1] at h
    refine lv_iconst hx hb dX6_bendsIf_124 jx_ki1 ?_
    exact jm_bendsIf_b125_ok hX F _ _ _ _ _ h _ _ _ hP hD hS hl
  · rw [if_pos c1] at h
    refine lv_iconst hx hb dX6_bendsIf_120 jx_kim1 ?_
    refine lv_goto (tgt := 125) hx hb dX6_bendsIf_121 rfl ?_
    exact jm_bendsIf_b125_ok hX F _ _ _ _ _ h _ _ _ hP hD hS hl
theorem jm_bendsIf_b59_ok {out : jm_S} (hX : jm_Ok p R s m args meth c A D ck ad sa cX6_bendsIf 8 none 2) (F : Nat) (x2 : Int32) (x3 : Int32) (x4 : Int32) (k0 : Int32) (k1 : Int32) (S : jm_S) (h : jm_bendsIf_b59 F x2 x3 x4 k0 k1 S = some out) : jm_J p l e R s m args below meth c A D ck ad 8 (jm_Qv below args s A D ck ad sa out) 59 [(0, .ref (ad 0)), (2, .int x2), (3, .int x3), (4, .int x4)] [.int k0, .int k1, .ref (ad 0), .ref (ad 0)] S := by
  intro H locs ls hP hD hS hl
  have hX0 := hX
  obtain ⟨hx, hb, hml, hown, hts, hlk, hr, hlv, hK, hZ⟩ := hX0
  unfold jm_bendsIf_b59 at h
  obtain ⟨q1, eq1, h⟩ := jx_bi_some h
  refine jm_callI hx hb hml hown hts hlv hK hZ (jm_of_met eq1) jm_of_g jm_of_d (As := [.int k1, .int k0]) (Nat.le_of_ble_eq_true rfl) (Nat.le_of_ble_eq_true rfl) hP hD hS hl.1 rfl rfl (lv_room (Nat.le_of_ble_eq_true rfl)) dX6_bendsIf_59 (fun H locs hP hD hS => ?_)
  obtain ⟨q2, eq2, h⟩ := jx_bi_some h
  refine jm_callI hx hb hml hown hts hlv hK hZ (jm_valueOf_met eq2) jm_valueOf_g jm_valueOf_d (As := [.int q1.1]) (Nat.le_of_ble_eq_true rfl) (Nat.le_of_ble_eq_true rfl) hP hD hS hl.1 rfl rfl (lv_room (Nat.le_of_ble_eq_true rfl)) dX6_bendsIf_62 (fun H locs hP hD hS => ?_)
  obtain ⟨y3, ey3, h⟩ := jx_nx_some h
  refine jx_topi ey3 ?_
  refine lv_istore (lv' := [(5, .int y3), (0, .ref (ad 0)), (2, .int x2), (3, .int x3), (4, .int x4)]) hx hb dX6_bendsIf_65 hl (Nat.le_of_ble_eq_true rfl) rfl (fun ls hl => ?_)
  refine lv_aload_n hx hb dX6_bendsIf_67 rfl (lv_at hl 1 rfl) ?_
  refine lv_iload_n hx hb dX6_bendsIf_68 rfl (lv_at hl 2 rfl) ?_
  refine lv_bipush hx hb dX6_bendsIf_69 jx_kb8 ?_
  obtain ⟨q4, eq4, h⟩ := jx_bi_some h
  refine jm_callI hx hb hml hown hts hlv hK hZ (jm_of_met eq4) jm_of_g jm_of_d (As := [.int x2, .int (nI 8)]) (Nat.le_of_ble_eq_true rfl) (Nat.le_of_ble_eq_true rfl) hP hD hS hl.1 rfl rfl (lv_room (Nat.le_of_ble_eq_true rfl)) dX6_bendsIf_71 (fun H locs hP hD hS => ?_)
  obtain ⟨y5, ey5, h⟩ := jx_nx_some h
  refine jx_topi ey5 ?_
  refine lv_istore (lv' := [(6, .int y5), (5, .int y3), (0, .ref (ad 0)), (2, .int x2), (3, .int x3), (4, .int x4)]) hx hb dX6_bendsIf_74 hl (Nat.le_of_ble_eq_true rfl) rfl (fun ls hl => ?_)
  refine lv_iload hx hb dX6_bendsIf_76 (lv_at hl 0 rfl) ?_
  refine lv_bipush hx hb dX6_bendsIf_78 jx_kb61 ?_
  refine lv_icmp_ne (tgt := 95) hx hb dX6_bendsIf_80 rfl (fun c6 => ?_) (fun c6 => ?_)
  · rw [if_neg c6] at h
    refine lv_iload_n hx hb dX6_bendsIf_95 rfl (lv_at hl 4 rfl) ?_
    refine lv_if_ne (tgt := 103) hx hb dX6_bendsIf_96 rfl (fun c7 => ?_) (fun c7 => ?_)
    · rw [if_neg c7] at h
      refine lv_iload hx hb dX6_bendsIf_103 (lv_at hl 0 rfl) ?_
      refine lv_bipush hx hb dX6_bendsIf_105 jx_kb60 ?_
      refine lv_icmp_ne (tgt := 114) hx hb dX6_bendsIf_107 rfl (fun c8 => ?_) (fun c8 => ?_)
      · rw [if_neg c8] at h
        refine lv_iconst hx hb dX6_bendsIf_114 jx_ki0 ?_
        exact jm_bendsIf_b115_ok hX F _ _ _ _ _ h _ _ _ hP hD hS (lv_sub hl [2, 3, 5, 1] rfl)
      · rw [if_pos c8] at h
        refine lv_iconst hx hb dX6_bendsIf_110 jx_ki1 ?_
        refine lv_goto (tgt := 115) hx hb dX6_bendsIf_111 rfl ?_
        exact jm_bendsIf_b115_ok hX F _ _ _ _ _ h _ _ _ hP hD hS (lv_sub hl [2, 3, 5, 1] rfl)
    · rw [if_pos c7] at h
      refine lv_iconst hx hb dX6_bendsIf_99 jx_ki0 ?_
      refine lv_goto (tgt := 125) hx hb dX6_bendsIf_100 rfl ?_
      exact jm_bendsIf_b125_ok hX F _ _ _ _ _ h _ _ _ hP hD hS (lv_sub hl [2, 3, 5, 1] rfl)
  · rw [if_pos c6] at h
    refine lv_iload_n hx hb dX6_bendsIf_83 rfl (lv_at hl 4 rfl) ?_
    refine lv_if_eq (tgt := 91) hx hb dX6_bendsIf_84 rfl (fun c9 => ?_) (fun c9 => ?_)
    · rw [if_pos c9] at h
      refine lv_iconst hx hb dX6_bendsIf_91 jx_ki1 ?_
      refine lv_goto (tgt := 125) hx hb dX6_bendsIf_92 rfl ?_
      exact jm_bendsIf_b125_ok hX F _ _ _ _ _ h _ _ _ hP hD hS (lv_sub hl [2, 3, 5, 1] rfl)
    · rw [if_neg c9] at h
      refine lv_iconst hx hb dX6_bendsIf_87 jx_ki0 ?_
      refine lv_goto (tgt := 125) hx hb dX6_bendsIf_88 rfl ?_
      exact jm_bendsIf_b125_ok hX F _ _ _ _ _ h _ _ _ hP hD hS (lv_sub hl [2, 3, 5, 1] rfl)
theorem jm_bendsIf_b44_ok {out : jm_S} (hX : jm_Ok p R s m args meth c A D ck ad sa cX6_bendsIf 8 none 2) (F : Nat) (x2 : Int32) (x3 : Int32) (x4 : Int32) (S : jm_S) (h : jm_bendsIf_b44 F x2 x3 x4 S = some out) : jm_J p l e R s m args below meth c A D ck ad 8 (jm_Qv below args s A D ck ad sa out) 44 [(0, .ref (ad 0)), (2, .int x2), (3, .int x3), (4, .int x4)] [] S := by
  intro H locs ls hP hD hS hl
  have hX0 := hX
  obtain ⟨hx, hb, hml, hown, hts, hlk, hr, hlv, hK, hZ⟩ := hX0
  unfold jm_bendsIf_b44 at h
  refine lv_aload_n hx hb dX6_bendsIf_44 rfl (lv_at hl 0 rfl) ?_
  refine lv_aload_n hx hb dX6_bendsIf_45 rfl (lv_at hl 0 rfl) ?_
  refine lv_iload_n hx hb dX6_bendsIf_46 rfl (lv_at hl 1 rfl) ?_
  refine lv_iload hx hb dX6_bendsIf_47 (lv_at hl 3 rfl) ?_
  refine lv_if_eq (tgt := 57) hx hb dX6_bendsIf_49 rfl (fun c1 => ?_) (fun c1 => ?_)
  · rw [if_pos c1] at h
    refine lv_bipush hx hb dX6_bendsIf_57 jx_kb6 ?_
    exact jm_bendsIf_b59_ok hX F _ _ _ _ _ _ h _ _ _ hP hD hS hl
  · rw [if_neg c1] at h
    refine lv_bipush hx hb dX6_bendsIf_52 jx_kb7 ?_
    refine lv_goto (tgt := 59) hx hb dX6_bendsIf_54 rfl ?_
    exact jm_bendsIf_b59_ok hX F _ _ _ _ _ _ h _ _ _ hP hD hS hl
theorem jm_bendsIf_ok {out : jm_S} (hX : jm_Ok p R s m args meth c A D ck ad sa cX6_bendsIf 8 none 2) (F : Nat) (x1 : Int32) (x2 : Int32) (x3 : Int32) (S : jm_S) (h : jm_bendsIf F x1 x2 x3 S = some out) : jm_J p l e R s m args below meth c A D ck ad 8 (jm_Qv below args s A D ck ad sa out) 0 [(0, .ref (ad 0)), (1, .int x1), (2, .int x2), (3, .int x3)] [] S := by
  intro H locs ls hP hD hS hl
  have hX0 := hX
  obtain ⟨hx, hb, hml, hown, hts, hlk, hr, hlv, hK, hZ⟩ := hX0
  unfold jm_bendsIf at h
  refine lv_aload_n hx hb dX6_bendsIf_0 rfl (lv_at hl 0 rfl) ?_
  refine lv_iload_n hx hb dX6_bendsIf_1 rfl (lv_at hl 1 rfl) ?_
  refine lv_aload_n hx hb dX6_bendsIf_2 rfl (lv_at hl 0 rfl) ?_
  refine lv_iload_n hx hb dX6_bendsIf_3 rfl (lv_at hl 2 rfl) ?_
  refine lv_bipush hx hb dX6_bendsIf_4 jx_kb6 ?_
  obtain ⟨q1, eq1, h⟩ := jx_bi_some h
  refine jm_callI hx hb hml hown hts hlv hK hZ (jm_of_met eq1) jm_of_g jm_of_d (As := [.int x2, .int (nI 6)]) (Nat.le_of_ble_eq_true rfl) (Nat.le_of_ble_eq_true rfl) hP hD hS hl.1 rfl rfl (lv_room (Nat.le_of_ble_eq_true rfl)) dX6_bendsIf_6 (fun H locs hP hD hS => ?_)
  obtain ⟨q2, eq2, h⟩ := jx_bi_some h
  refine jm_callI hx hb hml hown hts hlv hK hZ (jm_bendsAtom_met eq2) jm_bendsAtom_g jm_bendsAtom_d (As := [.int x1, .int q1.1]) (Nat.le_of_ble_eq_true rfl) (Nat.le_of_ble_eq_true rfl) hP hD hS hl.1 rfl rfl (lv_room (Nat.le_of_ble_eq_true rfl)) dX6_bendsIf_9 (fun H locs hP hD hS => ?_)
  obtain ⟨y3, ey3, h⟩ := jx_nx_some h
  refine jx_topi ey3 ?_
  refine lv_istore (lv' := [(4, .int y3), (0, .ref (ad 0)), (1, .int x1), (2, .int x2), (3, .int x3)]) hx hb dX6_bendsIf_12 hl (Nat.le_of_ble_eq_true rfl) rfl (fun ls hl => ?_)
  refine lv_aload_n hx hb dX6_bendsIf_14 rfl (lv_at hl 1 rfl) ?_
  refine lv_iload_n hx hb dX6_bendsIf_15 rfl (lv_at hl 3 rfl) ?_
  obtain ⟨q4, eq4, h⟩ := jx_bi_some h
  refine jm_callI hx hb hml hown hts hlv hK hZ (jm_isSo_met eq4) jm_isSo_g jm_isSo_d (As := [.int x2]) (Nat.le_of_ble_eq_true rfl) (Nat.le_of_ble_eq_true rfl) hP hD hS hl.1 rfl rfl (lv_room (Nat.le_of_ble_eq_true rfl)) dX6_bendsIf_16 (fun H locs hP hD hS => ?_)
  refine lv_iload_n hx hb dX6_bendsIf_19 rfl (lv_at hl 4 rfl) ?_
  refine lv_icmp_eq (tgt := 43) hx hb dX6_bendsIf_20 rfl (fun c5 => ?_) (fun c5 => ?_)
  · rw [if_pos c5] at h
    exact jm_vret hx hb hr hlk hK hZ hP hD hS h dX6_bendsIf_43
  · rw [if_neg c5] at h
    refine lv_iload hx hb dX6_bendsIf_23 (lv_at hl 0 rfl) ?_
    refine lv_if_ne (tgt := 44) hx hb dX6_bendsIf_25 rfl (fun c6 => ?_) (fun c6 => ?_)
    · rw [if_neg c6] at h
      exact jm_bendsIf_b44_ok hX F _ _ _ _ h _ _ _ hP hD hS (lv_sub hl [1, 3, 4, 0] rfl)
    · rw [if_pos c6] at h
      refine lv_aload_n hx hb dX6_bendsIf_28 rfl (lv_at hl 1 rfl) ?_
      refine lv_iload_n hx hb dX6_bendsIf_29 rfl (lv_at hl 2 rfl) ?_
      refine lv_aload_n hx hb dX6_bendsIf_30 rfl (lv_at hl 1 rfl) ?_
      refine lv_iload_n hx hb dX6_bendsIf_31 rfl (lv_at hl 3 rfl) ?_
      refine lv_bipush hx hb dX6_bendsIf_32 jx_kb7 ?_
      obtain ⟨q7, eq7, h⟩ := jx_bi_some h
      refine jm_callI hx hb hml hown hts hlv hK hZ (jm_of_met eq7) jm_of_g jm_of_d (As := [.int x2, .int (nI 7)]) (Nat.le_of_ble_eq_true rfl) (Nat.le_of_ble_eq_true rfl) hP hD hS hl.1 rfl rfl (lv_room (Nat.le_of_ble_eq_true rfl)) dX6_bendsIf_34 (fun H locs hP hD hS => ?_)
      obtain ⟨q8, eq8, h⟩ := jx_bi_some h
      refine jm_callI hx hb hml hown hts hlv hK hZ (jm_bendsAtom_met eq8) jm_bendsAtom_g jm_bendsAtom_d (As := [.int x1, .int q7.1]) (Nat.le_of_ble_eq_true rfl) (Nat.le_of_ble_eq_true rfl) hP hD hS hl.1 rfl rfl (lv_room (Nat.le_of_ble_eq_true rfl)) dX6_bendsIf_37 (fun H locs hP hD hS => ?_)
      refine lv_if_ne (tgt := 44) hx hb dX6_bendsIf_40 rfl (fun c9 => ?_) (fun c9 => ?_)
      · rw [if_neg c9] at h
        exact jm_bendsIf_b44_ok hX F _ _ _ _ h _ _ _ hP hD hS (lv_sub hl [1, 3, 4, 0] rfl)
      · rw [if_pos c9] at h
        exact jm_vret hx hb hr hlk hK hZ hP hD hS h dX6_bendsIf_43
theorem jm_bendsIf_met {l : Launch} {D : va_G} {ck : Nat → ClassId} {ad sa : Nat → Nat} {A : Nat → Prop} {F : Nat} {x1 : Int32} {x2 : Int32} {x3 : Int32} {S : jm_S} {out : jm_S} (h : jm_bendsIf F x1 x2 x3 S = some out) : jm_Mv l D ck ad sa A yX6_bendsIf cX6_bendsIf 8 none 2 [.int x1, .int x2, .int x3] S out :=
  jm_Mv_of ⟨by decide, rfl, Nat.le_of_ble_eq_true rfl⟩ (fun hX => jm_bendsIf_ok hX F x1 x2 x3 S h)
end

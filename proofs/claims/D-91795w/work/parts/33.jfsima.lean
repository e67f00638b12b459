set_option maxRecDepth 100000
set_option maxHeartbeats 4000000
section
variable {p : Program} {l : Launch} {e : Env} {R : Room} {s : State} {m : MethodId} {args : Array Value} {below : List Frame} {meth : Method} {c : Code} {A : Nat → Prop} {D : va_G} {E : jf_E} {fo : Nat → Nat → Option Nat} {pl : va_W} {lv : Nat} {H : Heap} {locs : List Loc} {Q : State → Prop} {pc : Nat} {ls : Array Slot} {rest : List Value} {cc : ByteArray} {S : jf_S}
theorem jk_begins_g_X1 : GoodIn lw_all (wsV RX1 290 RX5 yX5_begins (ws_ yX5_begins cX5_begins 2 none)) := lw_V q919 q535 q536 q109 q537
theorem jk_begins_g_X5 : GoodIn lw_all (wsV RX5 122 RX5 yX5_begins (ws_ yX5_begins cX5_begins 2 none)) := lw_V q534 q535 q536 q109 q537
theorem jk_begins_d : yX5_begins.cls = RX5 ∧ yX5_begins.cls ≠ "java/lang/invoke/MethodHandle" ∧ yX5_begins.cls ≠ "java/lang/invoke/VarHandle" ∧ (parseMethodDescriptor yX5_begins.desc).map (fun d => d.parameters.length) = some 0 := by decide +kernel
theorem jk_begins_L2_ok {out : jf_S} (hX : jf_Ok RX5 p R s m args meth c A D E cX5_begins 2 none 0) (F : Nat) {r2 : Int32 × jf_S → Option (jf_S)} (hr2 : ∀ a, r2 a = some out → jf_J p l e R s m args below meth c A D E fo pl 2 (jf_Qv below args s A D E fo pl out) 2 [(0, .ref (E.1 5)), (1, .int a.1)] [] a.2) (x1 : Int32) (S : jf_S) (h : jk_begins_L2 F r2 x1 S = some out) : jf_J p l e R s m args below meth c A D E fo pl 2 (jf_Qv below args s A D E fo pl out) 2 [(0, .ref (E.1 5)), (1, .int x1)] [] S := by
  intro H locs ls hP hS hl
  have hX0 := hX
  obtain ⟨hx, hb, hml, hown, hts, hlk, hr, hlv, hV, het⟩ := hX0
  unfold jk_begins_L2 at h
  refine lv_iload_n hx hb dX5_begins_2 rfl (lv_at hl 1 rfl) ?_
  refine lv_bipush hx hb dX5_begins_3 jx_kb16 ?_
  refine lv_icmp_ge (tgt := 28) hx hb dX5_begins_5 rfl (fun c1 => ?_) (fun c1 => ?_)
  · rw [if_pos c1] at h
    refine lv_aload_n hx hb dX5_begins_28 rfl (lv_at hl 0 rfl) ?_
    refine lv_iconst hx hb dX5_begins_29 jx_ki0 ?_
    obtain ⟨S2, eS2, h⟩ := jx_nx_some h
    refine jf_put (S1 := S2) hx hb hts in_X5 tyX5_ok nmX5 hown hV hP hS (ci := 4) (k := 8) (by rw [eS2]; rfl) jf_o5 (by rw [eS2]; exact jf_s5_8 _) rfl (by decide) (hts _ q387) rfl rfl (tyX5_ok 8 (by decide)) ⟨rfl, rfl⟩ (Nat.le_of_ble_eq_true rfl) dX5_begins_30 (fun H locs hP hS => ?_)
    refine lv_aload_n hx hb dX5_begins_33 rfl (lv_at hl 0 rfl) ?_
    refine lv_iconst hx hb dX5_begins_34 jx_ki0 ?_
    obtain ⟨S3, eS3, h⟩ := jx_nx_some h
    refine jf_put (S1 := S3) hx hb hts in_X5 tyX5_ok nmX5 hown hV hP hS (ci := 4) (k := 9) (by rw [eS3]; rfl) jf_o5 (by rw [eS3]; exact jf_s5_9 _) rfl (by decide) (hts _ q392) rfl rfl (tyX5_ok 9 (by decide)) ⟨rfl, rfl⟩ (Nat.le_of_ble_eq_true rfl) dX5_begins_35 (fun H locs hP hS => ?_)
    refine lv_aload_n hx hb dX5_begins_38 rfl (lv_at hl 0 rfl) ?_
    refine lv_iconst hx hb dX5_begins_39 jx_ki0 ?_
    obtain ⟨S4, eS4, h⟩ := jx_nx_some h
    refine jf_put (S1 := S4) hx hb hts in_X5 tyX5_ok nmX5 hown hV hP hS (ci := 4) (k := 10) (by rw [eS4]; rfl) jf_o5 (by rw [eS4]; exact jf_s5_10 _) rfl (by decide) (hts _ q394) rfl rfl (tyX5_ok 10 (by decide)) ⟨rfl, rfl⟩ (Nat.le_of_ble_eq_true rfl) dX5_begins_40 (fun H locs hP hS => ?_)
    refine lv_aload_n hx hb dX5_begins_43 rfl (lv_at hl 0 rfl) ?_
    refine lv_iconst hx hb dX5_begins_44 jx_ki0 ?_
    obtain ⟨S5, eS5, h⟩ := jx_nx_some h
    refine jf_put (S1 := S5) hx hb hts in_X5 tyX5_ok nmX5 hown hV hP hS (ci := 4) (k := 11) (by rw [eS5]; rfl) jf_o5 (by rw [eS5]; exact jf_s5_11 _) rfl (by decide) (hts _ q396) rfl rfl (tyX5_ok 11 (by decide)) ⟨rfl, rfl⟩ (Nat.le_of_ble_eq_true rfl) dX5_begins_45 (fun H locs hP hS => ?_)
    refine lv_aload_n hx hb dX5_begins_48 rfl (lv_at hl 0 rfl) ?_
    refine lv_iconst hx hb dX5_begins_49 jx_ki0 ?_
    obtain ⟨S6, eS6, h⟩ := jx_nx_some h
    refine jf_put (S1 := S6) hx hb hts in_X5 tyX5_ok nmX5 hown hV hP hS (ci := 4) (k := 12) (by rw [eS6]; rfl) jf_o5 (by rw [eS6]; exact jf_s5_12 _) rfl (by decide) (hts _ q398) rfl rfl (tyX5_ok 12 (by decide)) ⟨rfl, rfl⟩ (Nat.le_of_ble_eq_true rfl) dX5_begins_50 (fun H locs hP hS => ?_)
    refine lv_aload_n hx hb dX5_begins_53 rfl (lv_at hl 0 rfl) ?_
    refine lv_iconst hx hb dX5_begins_54 jx_ki0 ?_
    obtain ⟨S7, eS7, h⟩ := jx_nx_some h
    refine jf_put (S1 := S7) hx hb hts in_X5 tyX5_ok nmX5 hown hV hP hS (ci := 4) (k := 13) (by rw [eS7]; rfl) jf_o5 (by rw [eS7]; exact jf_s5_13 _) rfl (by decide) (hts _ q400) rfl rfl (tyX5_ok 13 (by decide)) ⟨rfl, rfl⟩ (Nat.le_of_ble_eq_true rfl) dX5_begins_55 (fun H locs hP hS => ?_)
    refine lv_aload_n hx hb dX5_begins_58 rfl (lv_at hl 0 rfl) ?_
    refine lv_iconst hx hb dX5_begins_59 jx_ki4 ?_
    obtain ⟨S8, eS8, h⟩ := jx_nx_some h
    refine jf_put (S1 := S8) hx hb hts in_X5 tyX5_ok nmX5 hown hV hP hS (ci := 4) (k := 14) (by rw [eS8]; rfl) jf_o5 (by rw [eS8]; exact jf_s5_14 _) rfl (by decide) (hts _ q402) rfl rfl (tyX5_ok 14 (by decide)) ⟨rfl, rfl⟩ (Nat.le_of_ble_eq_true rfl) dX5_begins_60 (fun H locs hP hS => ?_)
    refine lv_aload_n hx hb dX5_begins_63 rfl (lv_at hl 0 rfl) ?_
    refine lv_iconst hx hb dX5_begins_64 jx_kim1 ?_
    obtain ⟨S9, eS9, h⟩ := jx_nx_some h
    refine jf_put (S1 := S9) hx hb hts in_X5 tyX5_ok nmX5 hown hV hP hS (ci := 4) (k := 15) (by rw [eS9]; rfl) jf_o5 (by rw [eS9]; exact jf_s5_15 _) rfl (by decide) (hts _ q407) rfl rfl (tyX5_ok 15 (by decide)) ⟨rfl, rfl⟩ (Nat.le_of_ble_eq_true rfl) dX5_begins_65 (fun H locs hP hS => ?_)
    refine lv_aload_n hx hb dX5_begins_68 rfl (lv_at hl 0 rfl) ?_
    refine lv_iconst hx hb dX5_begins_69 jx_kim1 ?_
    obtain ⟨S10, eS10, h⟩ := jx_nx_some h
    refine jf_put (S1 := S10) hx hb hts in_X5 tyX5_ok nmX5 hown hV hP hS (ci := 4) (k := 16) (by rw [eS10]; rfl) jf_o5 (by rw [eS10]; exact jf_s5_16 _) rfl (by decide) (hts _ q409) rfl rfl (tyX5_ok 16 (by decide)) ⟨rfl, rfl⟩ (Nat.le_of_ble_eq_true rfl) dX5_begins_70 (fun H locs hP hS => ?_)
    refine lv_aload_n hx hb dX5_begins_73 rfl (lv_at hl 0 rfl) ?_
    refine lv_iconst hx hb dX5_begins_74 jx_kim1 ?_
    obtain ⟨S11, eS11, h⟩ := jx_nx_some h
    refine jf_put (S1 := S11) hx hb hts in_X5 tyX5_ok nmX5 hown hV hP hS (ci := 4) (k := 17) (by rw [eS11]; rfl) jf_o5 (by rw [eS11]; exact jf_s5_17 _) rfl (by decide) (hts _ q411) rfl rfl (tyX5_ok 17 (by decide)) ⟨rfl, rfl⟩ (Nat.le_of_ble_eq_true rfl) dX5_begins_75 (fun H locs hP hS => ?_)
    exact jf_vret hx hb hr hlk hV hP hS h dX5_begins_78
  · rw [if_neg c1] at h
    refine lv_aload_n hx hb dX5_begins_8 rfl (lv_at hl 0 rfl) ?_
    refine jf_get hx hb hts in_X5 hown hV hP (ci := 4) (k := 1) jf_o5 rfl (by decide) (hts _ q372) rfl rfl dX5_begins_9 ?_
    refine lv_iload_n hx hb dX5_begins_12 rfl (lv_at hl 1 rfl) ?_
    refine lv_iconst hx hb dX5_begins_13 jx_ki0 ?_
    obtain ⟨j12, ej12, bj12, h⟩ := jx_ga_some h
    obtain ⟨S13, eS13, h⟩ := jx_nx_some h
    refine jf_iast hx hb hV hP hS jf_a5_1 ej12 bj12 eS13 dX5_begins_14 (fun H locs hP hS => ?_)
    refine lv_aload_n hx hb dX5_begins_15 rfl (lv_at hl 0 rfl) ?_
    refine jf_get hx hb hts in_X5 hown hV hP (ci := 4) (k := 2) jf_o5 rfl (by decide) (hts _ q376) rfl rfl dX5_begins_16 ?_
    refine lv_iload_n hx hb dX5_begins_19 rfl (lv_at hl 1 rfl) ?_
    refine lv_iconst hx hb dX5_begins_20 jx_kim1 ?_
    obtain ⟨j14, ej14, bj14, h⟩ := jx_ga_some h
    obtain ⟨S15, eS15, h⟩ := jx_nx_some h
    refine jf_iast hx hb hV hP hS jf_a5_2 ej14 bj14 eS15 dX5_begins_21 (fun H locs hP hS => ?_)
    obtain ⟨y16, ey16, h⟩ := jx_nx_some h
    refine lv_iinc (v := y16) (lv' := [(1, .int y16), (0, .ref (E.1 5))]) hx hb dX5_begins_22 hl (k := 1) rfl (jx_inc jx_ki1 ey16) (Nat.le_of_ble_eq_true rfl) rfl (fun ls hl => ?_)
    refine lv_goto (tgt := 2) hx hb dX5_begins_25 rfl ?_
    exact hr2 _ h _ _ _ hP hS (lv_sub hl [1, 0] rfl)
theorem jk_begins_h2_ok {out : jf_S} (hX : jf_Ok RX5 p R s m args meth c A D E cX5_begins 2 none 0) (F : Nat) (n : Nat) (a : Int32 × jf_S) (h : jk_begins_h2 F n a = some out) : jf_J p l e R s m args below meth c A D E fo pl 2 (jf_Qv below args s A D E fo pl out) 2 [(0, .ref (E.1 5)), (1, .int a.1)] [] a.2 :=
  jx_loop_ind (J := fun a => jf_J p l e R s m args below meth c A D E fo pl 2 (jf_Qv below args s A D E fo pl out) 2 [(0, .ref (E.1 5)), (1, .int a.1)] [] a.2) (fun r hr a h => jk_begins_L2_ok hX F hr a.1 a.2 h) n a h
theorem jk_begins_ok {out : jf_S} (hX : jf_Ok RX5 p R s m args meth c A D E cX5_begins 2 none 0) (F : Nat)  (S : jf_S) (h : jk_begins F  S = some out) : jf_J p l e R s m args below meth c A D E fo pl 2 (jf_Qv below args s A D E fo pl out) 0 [(0, .ref (E.1 5))] [] S := by
  intro H locs ls hP hS hl
  have hX0 := hX
  obtain ⟨hx, hb, hml, hown, hts, hlk, hr, hlv, hV, het⟩ := hX0
  unfold jk_begins at h
  refine lv_iconst hx hb dX5_begins_0 jx_ki0 ?_
  obtain ⟨y1, ey1, h⟩ := jx_nx_some h
  refine jx_topi ey1 ?_
  refine lv_istore_n (lv' := [(1, .int y1), (0, .ref (E.1 5))]) hx hb dX5_begins_1 rfl hl (Nat.le_of_ble_eq_true rfl) rfl (fun ls hl => ?_)
  exact jk_begins_h2_ok hX F F _ h _ _ _ hP hS (lv_sub hl [1, 0] rfl)
theorem jk_begins_met {l : Launch} {D : va_G} {E : jf_E} {A : Nat → Prop} {fo : Nat → Nat → Option Nat} {pl : va_W} {F : Nat}  {S : jf_S} {out : jf_S} (h : jk_begins F  S = some out) : jf_Mv l D E A fo pl yX5_begins cX5_begins 2 none 0 [.ref (E.1 5)] S out :=
  jf_Mv_of (own := RX5) ⟨by decide, rfl, Nat.le_of_ble_eq_true rfl⟩ (fun hX => jk_begins_ok hX F  S h)
theorem jk_bends_g_X5 : GoodIn lw_all (wsV RX5 125 RX5 yX5_bends (ws_ yX5_bends cX5_bends 2 none)) := lw_V q538 q540 qs2 q109 q541
theorem jk_bends_d : yX5_bends.cls = RX5 ∧ yX5_bends.cls ≠ "java/lang/invoke/MethodHandle" ∧ yX5_bends.cls ≠ "java/lang/invoke/VarHandle" ∧ (parseMethodDescriptor yX5_bends.desc).map (fun d => d.parameters.length) = some 0 := by decide +kernel
theorem jk_bends_b126_ok {out : jf_S} (hX : jf_Ok RX5 p R s m args meth c A D E cX5_bends 2 none 0) (F : Nat) {r2 : Int32 × jf_S → Option (jf_S)} (hr2 : ∀ a, r2 a = some out → jf_J p l e R s m args below meth c A D E fo pl 2 (jf_Qv below args s A D E fo pl out) 2 [(0, .ref (E.1 5)), (1, .int a.1)] [] a.2) (x1 : Int32) (S : jf_S) (h : jk_bends_b126 F r2 x1 S = some out) : jf_J p l e R s m args below meth c A D E fo pl 2 (jf_Qv below args s A D E fo pl out) 126 [(0, .ref (E.1 5)), (1, .int x1)] [] S := by
  intro H locs ls hP hS hl
  have hX0 := hX
  obtain ⟨hx, hb, hml, hown, hts, hlk, hr, hlv, hV, het⟩ := hX0
  unfold jk_bends_b126 at h
  obtain ⟨y1, ey1, h⟩ := jx_nx_some h
  refine lv_iinc (v := y1) (lv' := [(1, .int y1), (0, .ref (E.1 5))]) hx hb dX5_bends_126 hl (k := 1) rfl (jx_inc jx_ki1 ey1) (Nat.le_of_ble_eq_true rfl) rfl (fun ls hl => ?_)
  refine lv_goto (tgt := 2) hx hb dX5_bends_129 rfl ?_
  exact hr2 _ h _ _ _ hP hS (lv_sub hl [1, 0] rfl)
theorem jk_bends_L2_ok {out : jf_S} (hX : jf_Ok RX5 p R s m args meth c A D E cX5_bends 2 none 0) (F : Nat) {r2 : Int32 × jf_S → Option (jf_S)} (hr2 : ∀ a, r2 a = some out → jf_J p l e R s m args below meth c A D E fo pl 2 (jf_Qv below args s A D E fo pl out) 2 [(0, .ref (E.1 5)), (1, .int a.1)] [] a.2) (x1 : Int32) (S : jf_S) (h : jk_bends_L2 F r2 x1 S = some out) : jf_J p l e R s m args below meth c A D E fo pl 2 (jf_Qv below args s A D E fo pl out) 2 [(0, .ref (E.1 5)), (1, .int x1)] [] S := by
  intro H locs ls hP hS hl
  have hX0 := hX
  obtain ⟨hx, hb, hml, hown, hts, hlk, hr, hlv, hV, het⟩ := hX0
  unfold jk_bends_L2 at h
  refine lv_iload_n hx hb dX5_bends_2 rfl (lv_at hl 1 rfl) ?_
  refine lv_aload_n hx hb dX5_bends_3 rfl (lv_at hl 0 rfl) ?_
  refine jf_get hx hb hts in_X5 hown hV hP (ci := 4) (k := 0) jf_o5 rfl (by decide) (hts _ q371) rfl rfl dX5_bends_4 ?_
  refine jf_getN hx hb hts in_X4 hown hV hP (ci := 3) (k := 16) (jf_oP (Or.inl rfl)) rfl (by decide) (jf_l_X5_103 hV.2.2.1) rfl rfl dX5_bends_7 ?_
  refine lv_icmp_ge (tgt := 132) hx hb dX5_bends_10 rfl (fun c1 => ?_) (fun c1 => ?_)
  · rw [if_pos c1] at h
    exact jf_vret hx hb hr hlk hV hP hS h dX5_bends_132
  · rw [if_neg c1] at h
    refine lv_aload_n hx hb dX5_bends_13 rfl (lv_at hl 0 rfl) ?_
    refine jf_get hx hb hts in_X5 hown hV hP (ci := 4) (k := 0) jf_o5 rfl (by decide) (hts _ q371) rfl rfl dX5_bends_14 ?_
    refine jf_getN hx hb hts in_X4 hown hV hP (ci := 3) (k := 5) (jf_oP (Or.inl rfl)) rfl (by decide) (jf_l_X5_106 hV.2.2.1) rfl rfl dX5_bends_17 ?_
    refine lv_iload_n hx hb dX5_bends_20 rfl (lv_at hl 1 rfl) ?_
    obtain ⟨j2, ej2, bj2, h⟩ := jx_ga_some h
    refine jf_iald hx hb hV hP (jf_aP5 (Or.inl rfl)) ej2 bj2 dX5_bends_21 ?_
    refine lv_aload_n hx hb dX5_bends_22 rfl (lv_at hl 0 rfl) ?_
    refine jf_get hx hb hts in_X5 hown hV hP (ci := 4) (k := 10) jf_o5 rfl (by decide) (hts _ q394) rfl rfl dX5_bends_23 ?_
    refine lv_icmp_eq (tgt := 32) hx hb dX5_bends_26 rfl (fun c3 => ?_) (fun c3 => ?_)
    · rw [if_pos c3] at h
      refine lv_aload_n hx hb dX5_bends_32 rfl (lv_at hl 0 rfl) ?_
      refine jf_get hx hb hts in_X5 hown hV hP (ci := 4) (k := 0) jf_o5 rfl (by decide) (hts _ q371) rfl rfl dX5_bends_33 ?_
      refine jf_getN hx hb hts in_X4 hown hV hP (ci := 3) (k := 6) (jf_oP (Or.inl rfl)) rfl (by decide) (jf_l_X5_109 hV.2.2.1) rfl rfl dX5_bends_36 ?_
      refine lv_iload_n hx hb dX5_bends_39 rfl (lv_at hl 1 rfl) ?_
      obtain ⟨j4, ej4, bj4, h⟩ := jx_ga_some h
      refine jf_iald hx hb hV hP (jf_aP6 (Or.inl rfl)) ej4 bj4 dX5_bends_40 ?_
      refine lv_bipush hx hb dX5_bends_41 jx_kb16 ?_
      refine lv_icmp_ge (tgt := 87) hx hb dX5_bends_43 rfl (fun c5 => ?_) (fun c5 => ?_)
      · rw [if_pos c5] at h
        refine lv_aload_n hx hb dX5_bends_87 rfl (lv_at hl 0 rfl) ?_
        refine jf_get hx hb hts in_X5 hown hV hP (ci := 4) (k := 8) jf_o5 rfl (by decide) (hts _ q387) rfl rfl dX5_bends_88 ?_
        refine lv_if_le (tgt := 126) hx hb dX5_bends_91 rfl (fun c6 => ?_) (fun c6 => ?_)
        · rw [if_pos c6] at h
          exact jk_bends_b126_ok hX F hr2 _ _ h _ _ _ hP hS hl
        · rw [if_neg c6] at h
          refine lv_aload_n hx hb dX5_bends_94 rfl (lv_at hl 0 rfl) ?_
          refine jf_get hx hb hts in_X5 hown hV hP (ci := 4) (k := 3) jf_o5 rfl (by decide) (hts _ q377) rfl rfl dX5_bends_95 ?_
          refine lv_aload_n hx hb dX5_bends_98 rfl (lv_at hl 0 rfl) ?_
          refine jf_get hx hb hts in_X5 hown hV hP (ci := 4) (k := 8) jf_o5 rfl (by decide) (hts _ q387) rfl rfl dX5_bends_99 ?_
          refine lv_iconst hx hb dX5_bends_102 jx_ki1 ?_
          refine lv_isub hx hb dX5_bends_103 ?_
          refine lv_aload_n hx hb dX5_bends_104 rfl (lv_at hl 0 rfl) ?_
          refine jf_get hx hb hts in_X5 hown hV hP (ci := 4) (k := 0) jf_o5 rfl (by decide) (hts _ q371) rfl rfl dX5_bends_105 ?_
          refine jf_getN hx hb hts in_X4 hown hV hP (ci := 3) (k := 7) (jf_oP (Or.inl rfl)) rfl (by decide) (jf_l_X5_112 hV.2.2.1) rfl rfl dX5_bends_108 ?_
          refine lv_iload_n hx hb dX5_bends_111 rfl (lv_at hl 1 rfl) ?_
          obtain ⟨j7, ej7, bj7, h⟩ := jx_ga_some h
          refine jf_iald hx hb hV hP (jf_aP7 (Or.inl rfl)) ej7 bj7 dX5_bends_112 ?_
          obtain ⟨j8, ej8, bj8, h⟩ := jx_ga_some h
          obtain ⟨S9, eS9, h⟩ := jx_nx_some h
          refine jf_iast hx hb hV hP hS jf_a5_3 ej8 bj8 eS9 dX5_bends_113 (fun H locs hP hS => ?_)
          refine lv_aload_n hx hb dX5_bends_114 rfl (lv_at hl 0 rfl) ?_
          refine jf_get hx hb hts in_X5 hown hV hP (ci := 4) (k := 5) jf_o5 rfl (by decide) (hts _ q382) rfl rfl dX5_bends_115 ?_
          refine lv_aload_n hx hb dX5_bends_118 rfl (lv_at hl 0 rfl) ?_
          refine jf_get hx hb hts in_X5 hown hV hP (ci := 4) (k := 8) jf_o5 rfl (by decide) (hts _ q387) rfl rfl dX5_bends_119 ?_
          refine lv_iconst hx hb dX5_bends_122 jx_ki1 ?_
          refine lv_isub hx hb dX5_bends_123 ?_
          refine lv_iload_n hx hb dX5_bends_124 rfl (lv_at hl 1 rfl) ?_
          obtain ⟨j10, ej10, bj10, h⟩ := jx_ga_some h
          obtain ⟨S11, eS11, h⟩ := jx_nx_some h
          refine jf_iast hx hb hV hP hS jf_a5_5 ej10 bj10 eS11 dX5_bends_125 (fun H locs hP hS => ?_)
          exact jk_bends_b126_ok hX F hr2 _ _ h _ _ _ hP hS hl
      · rw [if_neg c5] at h
        refine lv_aload_n hx hb dX5_bends_46 rfl (lv_at hl 0 rfl) ?_
        refine jf_get hx hb hts in_X5 hown hV hP (ci := 4) (k := 1) jf_o5 rfl (by decide) (hts _ q372) rfl rfl dX5_bends_47 ?_
        refine lv_aload_n hx hb dX5_bends_50 rfl (lv_at hl 0 rfl) ?_
        refine jf_get hx hb hts in_X5 hown hV hP (ci := 4) (k := 0) jf_o5 rfl (by decide) (hts _ q371) rfl rfl dX5_bends_51 ?_
        refine jf_getN hx hb hts in_X4 hown hV hP (ci := 3) (k := 6) (jf_oP (Or.inl rfl)) rfl (by decide) (jf_l_X5_109 hV.2.2.1) rfl rfl dX5_bends_54 ?_
        refine lv_iload_n hx hb dX5_bends_57 rfl (lv_at hl 1 rfl) ?_
        obtain ⟨j12, ej12, bj12, h⟩ := jx_ga_some h
        refine jf_iald hx hb hV hP (jf_aP6 (Or.inl rfl)) ej12 bj12 dX5_bends_58 ?_
        refine lv_aload_n hx hb dX5_bends_59 rfl (lv_at hl 0 rfl) ?_
        refine jf_get hx hb hts in_X5 hown hV hP (ci := 4) (k := 0) jf_o5 rfl (by decide) (hts _ q371) rfl rfl dX5_bends_60 ?_
        refine jf_getN hx hb hts in_X4 hown hV hP (ci := 3) (k := 7) (jf_oP (Or.inl rfl)) rfl (by decide) (jf_l_X5_112 hV.2.2.1) rfl rfl dX5_bends_63 ?_
        refine lv_iload_n hx hb dX5_bends_66 rfl (lv_at hl 1 rfl) ?_
        obtain ⟨j13, ej13, bj13, h⟩ := jx_ga_some h
        refine jf_iald hx hb hV hP (jf_aP7 (Or.inl rfl)) ej13 bj13 dX5_bends_67 ?_
        obtain ⟨j14, ej14, bj14, h⟩ := jx_ga_some h
        obtain ⟨S15, eS15, h⟩ := jx_nx_some h
        refine jf_iast hx hb hV hP hS jf_a5_1 ej14 bj14 eS15 dX5_bends_68 (fun H locs hP hS => ?_)
        refine lv_aload_n hx hb dX5_bends_69 rfl (lv_at hl 0 rfl) ?_
        refine jf_get hx hb hts in_X5 hown hV hP (ci := 4) (k := 2) jf_o5 rfl (by decide) (hts _ q376) rfl rfl dX5_bends_70 ?_
        refine lv_aload_n hx hb dX5_bends_73 rfl (lv_at hl 0 rfl) ?_
        refine jf_get hx hb hts in_X5 hown hV hP (ci := 4) (k := 0) jf_o5 rfl (by decide) (hts _ q371) rfl rfl dX5_bends_74 ?_
        refine jf_getN hx hb hts in_X4 hown hV hP (ci := 3) (k := 6) (jf_oP (Or.inl rfl)) rfl (by decide) (jf_l_X5_109 hV.2.2.1) rfl rfl dX5_bends_77 ?_
        refine lv_iload_n hx hb dX5_bends_80 rfl (lv_at hl 1 rfl) ?_
        obtain ⟨j16, ej16, bj16, h⟩ := jx_ga_some h
        refine jf_iald hx hb hV hP (jf_aP6 (Or.inl rfl)) ej16 bj16 dX5_bends_81 ?_
        refine lv_iload_n hx hb dX5_bends_82 rfl (lv_at hl 1 rfl) ?_
        obtain ⟨j17, ej17, bj17, h⟩ := jx_ga_some h
        obtain ⟨S18, eS18, h⟩ := jx_nx_some h
        refine jf_iast hx hb hV hP hS jf_a5_2 ej17 bj17 eS18 dX5_bends_83 (fun H locs hP hS => ?_)
        refine lv_goto (tgt := 126) hx hb dX5_bends_84 rfl ?_
        exact jk_bends_b126_ok hX F hr2 _ _ h _ _ _ hP hS hl
    · rw [if_neg c3] at h
      refine lv_goto (tgt := 126) hx hb dX5_bends_29 rfl ?_
      exact jk_bends_b126_ok hX F hr2 _ _ h _ _ _ hP hS hl
theorem jk_bends_h2_ok {out : jf_S} (hX : jf_Ok RX5 p R s m args meth c A D E cX5_bends 2 none 0) (F : Nat) (n : Nat) (a : Int32 × jf_S) (h : jk_bends_h2 F n a = some out) : jf_J p l e R s m args below meth c A D E fo pl 2 (jf_Qv below args s A D E fo pl out) 2 [(0, .ref (E.1 5)), (1, .int a.1)] [] a.2 :=
  jx_loop_ind (J := fun a => jf_J p l e R s m args below meth c A D E fo pl 2 (jf_Qv below args s A D E fo pl out) 2 [(0, .ref (E.1 5)), (1, .int a.1)] [] a.2) (fun r hr a h => jk_bends_L2_ok hX F hr a.1 a.2 h) n a h
theorem jk_bends_ok {out : jf_S} (hX : jf_Ok RX5 p R s m args meth c A D E cX5_bends 2 none 0) (F : Nat)  (S : jf_S) (h : jk_bends F  S = some out) : jf_J p l e R s m args below meth c A D E fo pl 2 (jf_Qv below args s A D E fo pl out) 0 [(0, .ref (E.1 5))] [] S := by
  intro H locs ls hP hS hl
  have hX0 := hX
  obtain ⟨hx, hb, hml, hown, hts, hlk, hr, hlv, hV, het⟩ := hX0
  unfold jk_bends at h
  refine lv_iconst hx hb dX5_bends_0 jx_ki0 ?_
  obtain ⟨y1, ey1, h⟩ := jx_nx_some h
  refine jx_topi ey1 ?_
  refine lv_istore_n (lv' := [(1, .int y1), (0, .ref (E.1 5))]) hx hb dX5_bends_1 rfl hl (Nat.le_of_ble_eq_true rfl) rfl (fun ls hl => ?_)
  exact jk_bends_h2_ok hX F F _ h _ _ _ hP hS (lv_sub hl [1, 0] rfl)
theorem jk_bends_met {l : Launch} {D : va_G} {E : jf_E} {A : Nat → Prop} {fo : Nat → Nat → Option Nat} {pl : va_W} {F : Nat}  {S : jf_S} {out : jf_S} (h : jk_bends F  S = some out) : jf_Mv l D E A fo pl yX5_bends cX5_bends 2 none 0 [.ref (E.1 5)] S out :=
  jf_Mv_of (own := RX5) ⟨by decide, rfl, Nat.le_of_ble_eq_true rfl⟩ (fun hX => jk_bends_ok hX F  S h)
theorem jk_trap_g_X14 : GoodIn lw_all (wsV RX14 24 RX5 yX5_trap (ws_ yX5_trap cX5_trap 1 (some .int))) := lw_V q638 q547 q548 q109 q549
theorem jk_trap_g_X15 : GoodIn lw_all (wsV RX15 19 RX5 yX5_trap (ws_ yX5_trap cX5_trap 1 (some .int))) := lw_V q625 q547 q548 q109 q549
theorem jk_trap_g_X16 : GoodIn lw_all (wsV RX16 25 RX5 yX5_trap (ws_ yX5_trap cX5_trap 1 (some .int))) := lw_V q556 q547 q548 q109 q549
theorem jk_trap_g_X5 : GoodIn lw_all (wsV RX5 115 RX5 yX5_trap (ws_ yX5_trap cX5_trap 1 (some .int))) := lw_V q546 q547 q548 q109 q549
theorem jk_trap_g_X9 : GoodIn lw_all (wsV RX9 42 RX5 yX5_trap (ws_ yX5_trap cX5_trap 1 (some .int))) := lw_V q676 q547 q548 q109 q549
theorem jk_trap_d : yX5_trap.cls = RX5 ∧ yX5_trap.cls ≠ "java/lang/invoke/MethodHandle" ∧ yX5_trap.cls ≠ "java/lang/invoke/VarHandle" ∧ (parseMethodDescriptor yX5_trap.desc).map (fun d => d.parameters.length) = some 0 := by decide +kernel
theorem jk_trap_ok {out : Int32 × jf_S} (hX : jf_Ok RX5 p R s m args meth c A D E cX5_trap 1 (some .int) 0) (F : Nat)  (S : jf_S) (h : jk_trap F  S = some out) : jf_J p l e R s m args below meth c A D E fo pl 1 (jf_Qi below args s A D E fo pl out) 0 [(0, .ref (E.1 5))] [] S := by
  intro H locs ls hP hS hl
  have hX0 := hX
  obtain ⟨hx, hb, hml, hown, hts, hlk, hr, hlv, hV, het⟩ := hX0
  unfold jk_trap at h
  refine lv_aload_n hx hb dX5_trap_0 rfl (lv_at hl 0 rfl) ?_
  refine lv_iconst hx hb dX5_trap_1 jx_ki3 ?_
  obtain ⟨S1, eS1, h⟩ := jx_nx_some h
  refine jf_put (S1 := S1) hx hb hts in_X5 tyX5_ok nmX5 hown hV hP hS (ci := 4) (k := 14) (by rw [eS1]; rfl) jf_o5 (by rw [eS1]; exact jf_s5_14 _) rfl (by decide) (hts _ q402) rfl rfl (tyX5_ok 14 (by decide)) ⟨rfl, rfl⟩ (Nat.le_of_ble_eq_true rfl) dX5_trap_2 (fun H locs hP hS => ?_)
  refine lv_aload_n hx hb dX5_trap_5 rfl (lv_at hl 0 rfl) ?_
  refine jf_get hx hb hts in_X5 hown hV hP (ci := 4) (k := 9) jf_o5 rfl (by decide) (hts _ q392) rfl rfl dX5_trap_6 ?_
  exact jf_iret hx hb hr hlk hV hP hS h dX5_trap_9
theorem jk_trap_met {l : Launch} {D : va_G} {E : jf_E} {A : Nat → Prop} {fo : Nat → Nat → Option Nat} {pl : va_W} {F : Nat}  {S : jf_S} {out : Int32 × jf_S} (h : jk_trap F  S = some out) : jf_Mi l D E A fo pl yX5_trap cX5_trap 1 (some .int) 0 [.ref (E.1 5)] S out :=
  jf_Mi_of (own := RX5) ⟨by decide, rfl, Nat.le_of_ble_eq_true rfl⟩ (fun hX => jk_trap_ok hX F  S h)
theorem ja_of_g_X1 : GoodIn lw_all (wsV RX1 258 RX7 yX7_of (ws_ yX7_of cX7_of 2 (some .int))) := lw_V q926 q644 q645 q115 q646
theorem ja_of_g_X12 : GoodIn lw_all (wsV RX12 41 RX7 yX7_of (ws_ yX7_of cX7_of 2 (some .int))) := lw_V q654 q644 q645 q115 q646
theorem ja_of_g_X17 : GoodIn lw_all (wsV RX17 24 RX7 yX7_of (ws_ yX7_of cX7_of 2 (some .int))) := lw_V q643 q644 q645 q115 q646
theorem ja_of_g_X9 : GoodIn lw_all (wsV RX9 30 RX7 yX7_of (ws_ yX7_of cX7_of 2 (some .int))) := lw_V q671 q644 q645 q115 q646
theorem ja_of_d : yX7_of.cls = RX7 ∧ yX7_of.cls ≠ "java/lang/invoke/MethodHandle" ∧ yX7_of.cls ≠ "java/lang/invoke/VarHandle" ∧ (parseMethodDescriptor yX7_of.desc).map (fun d => d.parameters.length) = some 1 := by decide +kernel
theorem ja_of_ok {out : Int32 × jf_S} (hX : jf_Ok RX7 p R s m args meth c A D E cX7_of 2 (some .int) 0) (F : Nat) (x0 : Int32) {x0a : Nat} (x0h : jo_atom pl x0a x0) (S : jf_S) (h : ja_of F x0 S = some out) : jf_J p l e R s m args below meth c A D E fo pl 2 (jf_Qi below args s A D E fo pl out) 0 [(0, .ref x0a), (1, .ref (E.1 5))] [] S := by
  intro H locs ls hP hS hl
  have hX0 := hX
  obtain ⟨hx, hb, hml, hown, hts, hlk, hr, hlv, hV, het⟩ := hX0
  unfold ja_of at h
  refine lv_aload_n hx hb dX7_of_0 rfl (lv_at hl 0 rfl) ?_
  obtain ⟨q1, hq1⟩ := jf_pool (E := E) (S := S) (fo := fo) x0h
  refine jf_get hx hb hts in_X7 hown hV hP (ci := 5) (k := 0) hq1 rfl (by decide) (hts _ q1044) rfl rfl dX7_of_1 ?_
  refine lv_iconst hx hb dX7_of_4 jx_kim1 ?_
  refine lv_icmp_ne (tgt := 15) hx hb dX7_of_5 rfl (fun c2 => ?_) (fun c2 => ?_)
  · rw [if_neg c2] at h
    refine lv_aload_n hx hb dX7_of_15 rfl (lv_at hl 1 rfl) ?_
    refine jf_getN hx hb hts in_X5 hown hV hP (ci := 4) (k := 1) jf_o5 rfl (by decide) (jf_l_X7_18 hV.2.2.1) rfl rfl dX7_of_16 ?_
    refine lv_aload_n hx hb dX7_of_19 rfl (lv_at hl 0 rfl) ?_
    obtain ⟨q3, hq3⟩ := jf_pool (E := E) (S := S) (fo := fo) x0h
    refine jf_get hx hb hts in_X7 hown hV hP (ci := 5) (k := 0) hq3 rfl (by decide) (hts _ q1044) rfl rfl dX7_of_20 ?_
    obtain ⟨j4, ej4, bj4, h⟩ := jx_ga_some h
    refine jf_iald hx hb hV hP jf_a5_1 ej4 bj4 dX7_of_23 ?_
    exact jf_iret hx hb hr hlk hV hP hS h dX7_of_24
  · rw [if_pos c2] at h
    refine lv_aload_n hx hb dX7_of_8 rfl (lv_at hl 0 rfl) ?_
    obtain ⟨q5, hq5⟩ := jf_pool (E := E) (S := S) (fo := fo) x0h
    refine jf_get hx hb hts in_X7 hown hV hP (ci := 5) (k := 1) hq5 rfl (by decide) (hts _ q1049) rfl rfl dX7_of_9 ?_
    refine lv_goto (tgt := 24) hx hb dX7_of_12 rfl ?_
    exact jf_iret hx hb hr hlk hV hP hS h dX7_of_24
theorem ja_of_met {l : Launch} {D : va_G} {E : jf_E} {A : Nat → Prop} {fo : Nat → Nat → Option Nat} {pl : va_W} {F : Nat} {x0 : Int32} {x0a : Nat} (x0h : jo_atom pl x0a x0) {S : jf_S} {out : Int32 × jf_S} (h : ja_of F x0 S = some out) : jf_Mi l D E A fo pl yX7_of cX7_of 2 (some .int) 0 [.ref x0a, .ref (E.1 5)] S out :=
  jf_Mi_of (own := RX7) ⟨by decide, rfl, Nat.le_of_ble_eq_true rfl⟩ (fun hX => ja_of_ok hX F x0 x0h S h)
theorem jk_writes_g_X10 : GoodIn lw_all (wsV RX10 18 RX5 yX5_writes (ws_ yX5_writes cX5_writes 3 none)) := lw_V q664 q665 q666 q109 q667
theorem jk_writes_g_X9 : GoodIn lw_all (wsV RX9 48 RX5 yX5_writes (ws_ yX5_writes cX5_writes 3 none)) := lw_V q677 q665 q666 q109 q667
theorem jk_writes_d : yX5_writes.cls = RX5 ∧ yX5_writes.cls ≠ "java/lang/invoke/MethodHandle" ∧ yX5_writes.cls ≠ "java/lang/invoke/VarHandle" ∧ (parseMethodDescriptor yX5_writes.desc).map (fun d => d.parameters.length) = some 2 := by decide +kernel
theorem jk_writes_ok {out : jf_S} (hX : jf_Ok RX5 p R s m args meth c A D E cX5_writes 3 none 0) (F : Nat) (x1 : Int32) (x2 : Int32) (S : jf_S) (h : jk_writes F x1 x2 S = some out) : jf_J p l e R s m args below meth c A D E fo pl 3 (jf_Qv below args s A D E fo pl out) 0 [(0, .ref (E.1 5)), (1, .int x1), (2, .int x2)] [] S := by
  intro H locs ls hP hS hl
  have hX0 := hX
  obtain ⟨hx, hb, hml, hown, hts, hlk, hr, hlv, hV, het⟩ := hX0
  unfold jk_writes at h
  refine lv_aload_n hx hb dX5_writes_0 rfl (lv_at hl 0 rfl) ?_
  refine jf_get hx hb hts in_X5 hown hV hP (ci := 4) (k := 1) jf_o5 rfl (by decide) (hts _ q372) rfl rfl dX5_writes_1 ?_
  refine lv_iload_n hx hb dX5_writes_4 rfl (lv_at hl 1 rfl) ?_
  refine lv_iload_n hx hb dX5_writes_5 rfl (lv_at hl 2 rfl) ?_
  obtain ⟨j1, ej1, bj1, h⟩ := jx_ga_some h
  obtain ⟨S2, eS2, h⟩ := jx_nx_some h
  refine jf_iast hx hb hV hP hS jf_a5_1 ej1 bj1 eS2 dX5_writes_6 (fun H locs hP hS => ?_)
  refine lv_aload_n hx hb dX5_writes_7 rfl (lv_at hl 0 rfl) ?_
  refine jf_get hx hb hts in_X5 hown hV hP (ci := 4) (k := 2) jf_o5 rfl (by decide) (hts _ q376) rfl rfl dX5_writes_8 ?_
  refine lv_iload_n hx hb dX5_writes_11 rfl (lv_at hl 1 rfl) ?_
  refine lv_iconst hx hb dX5_writes_12 jx_kim1 ?_
  obtain ⟨j3, ej3, bj3, h⟩ := jx_ga_some h
  obtain ⟨S4, eS4, h⟩ := jx_nx_some h
  refine jf_iast hx hb hV hP hS jf_a5_2 ej3 bj3 eS4 dX5_writes_13 (fun H locs hP hS => ?_)
  exact jf_vret hx hb hr hlk hV hP hS h dX5_writes_14
theorem jk_writes_met {l : Launch} {D : va_G} {E : jf_E} {A : Nat → Prop} {fo : Nat → Nat → Option Nat} {pl : va_W} {F : Nat} {x1 : Int32} {x2 : Int32} {S : jf_S} {out : jf_S} (h : jk_writes F x1 x2 S = some out) : jf_Mv l D E A fo pl yX5_writes cX5_writes 3 none 0 [.ref (E.1 5), .int x1, .int x2] S out :=
  jf_Mv_of (own := RX5) ⟨by decide, rfl, Nat.le_of_ble_eq_true rfl⟩ (fun hX => jk_writes_ok hX F x1 x2 S h)
theorem jo9_does_d : yX9_does.cls = RX9 ∧ yX9_does.cls ≠ "java/lang/invoke/MethodHandle" ∧ yX9_does.cls ≠ "java/lang/invoke/VarHandle" ∧ (parseMethodDescriptor yX9_does.desc).map (fun d => d.parameters.length) = some 2 := by decide +kernel
theorem jo9_does_b68_ok {out : Int32 × jf_S} (hX : jf_Ok RX9 p R s m args meth c A D E cX9_does 9 (some .int) 1) (F : Nat) (x0 : jo_R) {x0a : Nat} (x0h : jo_m0 pl x0a x0) (x2 : Int32) (k0 : Int64) (S : jf_S) (h : jo9_does_b68 F x0 x2 k0 S = some out) : jf_J p l e R s m args below meth c A D E fo pl 9 (jf_Qi below args s A D E fo pl out) 68 [(0, .ref x0a), (1, .ref (E.1 5)), (2, .int x2)] [.long k0] S := by
  intro H locs ls hP hS hl
  have hX0 := hX
  obtain ⟨hx, hb, hml, hown, hts, hlk, hr, hlv, hV, het⟩ := hX0
  unfold jo9_does_b68 at h
  refine lv_lstore (lv' := [(7, .long k0), (0, .ref x0a), (1, .ref (E.1 5)), (2, .int x2)]) hx hb dX9_does_68 hl (Nat.le_of_ble_eq_true rfl) rfl (fun ls hl => ?_)
  refine lv_lload hx hb dX9_does_70 (lv_at hl 0 rfl) ?_
  refine va_mabs_long hx hb (hml.trans hl.1.symm) hown (hts _ q672) (hts _ jx_labs_s) (hts _ jx_mmin_i) (hts _ jx_labs_c) (Nat.le_trans (Nat.le_of_ble_eq_true rfl) hlv.1) (Nat.le_trans (Nat.le_of_ble_eq_true rfl) hlv.2) (Nat.zero_le _) (Nat.zero_le _) dX9_does_72 ?_
  refine lv_ldc2 hx hb hown (hts _ q675) dX9_does_75 ?_
  refine W.lcmp hx hb dX9_does_78 ?_
  refine lv_if_le (tgt := 87) hx hb dX9_does_79 rfl (fun c1 => ?_) (fun c1 => ?_)
  · rw [if_pos c1] at h
    refine lv_aload_n hx hb dX9_does_87 rfl (lv_at hl 2 rfl) ?_
    refine lv_aload_n hx hb dX9_does_88 rfl (lv_at hl 1 rfl) ?_
    obtain ⟨q2, bq2, wq2, hq2, aq2, cq2⟩ := jo_f0 (E := E) (S := S) (fo := fo) x0h
    refine jf_get hx hb hts in_X9 hown hV hP (ci := 6) (k := 1) hq2 rfl (by decide) (hts _ q1066) rfl rfl dX9_does_89 ?_
    refine lv_lload hx hb dX9_does_92 (lv_at hl 0 rfl) ?_
    refine lv_l2i hx hb dX9_does_94 rfl ?_
    obtain ⟨q3, eq3, h⟩ := jx_bi_some h
    refine jf_callV hx hb hml hown hts hlv hV (jk_writes_met eq3) jk_writes_g_X9 jk_writes_d (As := [.int (x0 5), .int k0.toInt32]) (Nat.le_of_ble_eq_true rfl) (Nat.le_of_ble_eq_true rfl) hP hS (ci := 4) jf_o5 rfl hl.1 rfl rfl (lv_room (Nat.le_of_ble_eq_true rfl)) dX9_does_95 (fun H locs hP hS => ?_)
    refine lv_iload_n hx hb dX9_does_98 rfl (lv_at hl 3 rfl) ?_
    refine lv_iconst hx hb dX9_does_99 jx_ki1 ?_
    refine lv_iadd hx hb dX9_does_100 ?_
    exact jf_iret hx hb hr hlk hV hP hS h dX9_does_101
  · rw [if_neg c1] at h
    refine lv_aload_n hx hb dX9_does_82 rfl (lv_at hl 2 rfl) ?_
    obtain ⟨q4, eq4, h⟩ := jx_bi_some h
    refine jf_callI hx hb hml hown hts hlv hV (jk_trap_met eq4) jk_trap_g_X9 jk_trap_d (As := []) (Nat.le_of_ble_eq_true rfl) (Nat.le_of_ble_eq_true rfl) hP hS (ci := 4) jf_o5 rfl hl.1 rfl rfl (lv_room (Nat.le_of_ble_eq_true rfl)) dX9_does_83 (fun H locs hP hS => ?_)
    exact jf_iret hx hb hr hlk hV hP hS h dX9_does_86
theorem jo9_does_b30_ok {out : Int32 × jf_S} (hX : jf_Ok RX9 p R s m args meth c A D E cX9_does 9 (some .int) 1) (F : Nat) (x0 : jo_R) {x0a : Nat} (x0h : jo_m0 pl x0a x0) (x2 : Int32) (x3 : Int64) (k0 : Int64) (S : jf_S) (h : jo9_does_b30 F x0 x2 x3 k0 S = some out) : jf_J p l e R s m args below meth c A D E fo pl 9 (jf_Qi below args s A D E fo pl out) 30 [(0, .ref x0a), (1, .ref (E.1 5)), (2, .int x2), (3, .long x3)] [.long k0] S := by
  intro H locs ls hP hS hl
  have hX0 := hX
  obtain ⟨hx, hb, hml, hown, hts, hlk, hr, hlv, hV, het⟩ := hX0
  unfold jo9_does_b30 at h
  refine lv_lstore (lv' := [(5, .long k0), (0, .ref x0a), (1, .ref (E.1 5)), (2, .int x2), (3, .long x3)]) hx hb dX9_does_30 hl (Nat.le_of_ble_eq_true rfl) rfl (fun ls hl => ?_)
  refine lv_aload_n hx hb dX9_does_32 rfl (lv_at hl 1 rfl) ?_
  obtain ⟨q1, bq1, wq1, hq1, aq1, cq1⟩ := jo_f0 (E := E) (S := S) (fo := fo) x0h
  refine jf_get hx hb hts in_X9 hown hV hP (ci := 6) (k := 2) hq1 rfl (by decide) (hts _ q1068) rfl rfl dX9_does_33 ?_
  refine lv_bipush hx hb dX9_does_36 jx_kb45 ?_
  refine lv_icmp_ne (tgt := 48) hx hb dX9_does_38 rfl (fun c2 => ?_) (fun c2 => ?_)
  · rw [if_neg c2] at h
    refine lv_aload_n hx hb dX9_does_48 rfl (lv_at hl 1 rfl) ?_
    obtain ⟨q3, bq3, wq3, hq3, aq3, cq3⟩ := jo_f0 (E := E) (S := S) (fo := fo) x0h
    refine jf_get hx hb hts in_X9 hown hV hP (ci := 6) (k := 2) hq3 rfl (by decide) (hts _ q1068) rfl rfl dX9_does_49 ?_
    refine lv_bipush hx hb dX9_does_52 jx_kb42 ?_
    refine lv_icmp_ne (tgt := 64) hx hb dX9_does_54 rfl (fun c4 => ?_) (fun c4 => ?_)
    · rw [if_neg c4] at h
      refine lv_lload_n hx hb dX9_does_64 rfl (lv_at hl 4 rfl) ?_
      refine lv_lload hx hb dX9_does_65 (lv_at hl 0 rfl) ?_
      refine lv_ladd hx hb dX9_does_67 ?_
      exact jo9_does_b68_ok hX F _ x0h _ _ _ h _ _ _ hP hS (lv_sub hl [1, 2, 3] rfl)
    · rw [if_pos c4] at h
      refine lv_lload_n hx hb dX9_does_57 rfl (lv_at hl 4 rfl) ?_
      refine lv_lload hx hb dX9_does_58 (lv_at hl 0 rfl) ?_
      refine lv_lmul hx hb dX9_does_60 ?_
      refine lv_goto (tgt := 68) hx hb dX9_does_61 rfl ?_
      exact jo9_does_b68_ok hX F _ x0h _ _ _ h _ _ _ hP hS (lv_sub hl [1, 2, 3] rfl)
  · rw [if_pos c2] at h
    refine lv_lload_n hx hb dX9_does_41 rfl (lv_at hl 4 rfl) ?_
    refine lv_lload hx hb dX9_does_42 (lv_at hl 0 rfl) ?_
    refine lv_lsub hx hb dX9_does_44 ?_
    refine lv_goto (tgt := 68) hx hb dX9_does_45 rfl ?_
    exact jo9_does_b68_ok hX F _ x0h _ _ _ h _ _ _ hP hS (lv_sub hl [1, 2, 3] rfl)
theorem jo9_does_ok {out : Int32 × jf_S} (hX : jf_Ok RX9 p R s m args meth c A D E cX9_does 9 (some .int) 1) (F : Nat) (x0 : jo_R) {x0a : Nat} (x0h : jo_m0 pl x0a x0) (x2 : Int32) (S : jf_S) (h : jo9_does F x0 x2 S = some out) : jf_J p l e R s m args below meth c A D E fo pl 9 (jf_Qi below args s A D E fo pl out) 0 [(0, .ref x0a), (1, .ref (E.1 5)), (2, .int x2)] [] S := by
  intro H locs ls hP hS hl
  have hX0 := hX
  obtain ⟨hx, hb, hml, hown, hts, hlk, hr, hlv, hV, het⟩ := hX0
  unfold jo9_does at h
  refine lv_aload_n hx hb dX9_does_0 rfl (lv_at hl 0 rfl) ?_
  obtain ⟨q1, bq1, wq1, hq1, aq1, cq1⟩ := jo_f0 (E := E) (S := S) (fo := fo) x0h
  refine jf_get hx hb hts in_X9 hown hV hP (ci := 6) (k := 3) hq1 rfl (by decide) (hts _ q1069) rfl rfl dX9_does_1 ?_
  refine lv_aload_n hx hb dX9_does_4 rfl (lv_at hl 1 rfl) ?_
  obtain ⟨q2, eq2, h⟩ := jx_bi_some h
  obtain ⟨q3, hq3⟩ := jf_pool (E := E) (S := S) (fo := fo) aq1
  refine jf_callI hx hb hml hown hts hlv hV (ja_of_met aq1 eq2) ja_of_g_X9 ja_of_d (As := [.ref (E.1 5)]) (Nat.le_of_ble_eq_true rfl) (Nat.le_of_ble_eq_true rfl) hP hS (ci := 5) hq3 rfl hl.1 rfl rfl (lv_room (Nat.le_of_ble_eq_true rfl)) dX9_does_5 (fun H locs hP hS => ?_)
  refine lv_i2l hx hb dX9_does_8 rfl ?_
  obtain ⟨y4, ey4, h⟩ := jx_nx_some h
  refine jx_topl ey4 ?_
  refine lv_lstore_n (lv' := [(3, .long y4), (0, .ref x0a), (1, .ref (E.1 5)), (2, .int x2)]) hx hb dX9_does_9 rfl hl (Nat.le_of_ble_eq_true rfl) rfl (fun ls hl => ?_)
  refine lv_aload_n hx hb dX9_does_10 rfl (lv_at hl 1 rfl) ?_
  obtain ⟨q5, bq5, wq5, hq5, aq5, cq5⟩ := jo_f0 (E := E) (S := q2.2) (fo := fo) x0h
  refine jf_get hx hb hts in_X9 hown hV hP (ci := 6) (k := 2) hq5 rfl (by decide) (hts _ q1068) rfl rfl dX9_does_11 ?_
  refine lv_if_ne (tgt := 21) hx hb dX9_does_14 rfl (fun c6 => ?_) (fun c6 => ?_)
  · rw [if_neg c6] at h
    refine lv_aload_n hx hb dX9_does_21 rfl (lv_at hl 1 rfl) ?_
    obtain ⟨q7, bq7, wq7, hq7, aq7, cq7⟩ := jo_f0 (E := E) (S := q2.2) (fo := fo) x0h
    obtain ⟨nq7, h⟩ := jx_gn_some h
    obtain ⟨dq7, ewq7, adq7⟩ := cq7 nq7
    subst ewq7
    refine jf_get hx hb hts in_X9 hown hV hP (ci := 6) (k := 4) hq7 rfl (by decide) (hts _ q1070) rfl rfl dX9_does_22 ?_
    refine lv_aload_n hx hb dX9_does_25 rfl (lv_at hl 2 rfl) ?_
    obtain ⟨q8, eq8, h⟩ := jx_bi_some h
    obtain ⟨q9, hq9⟩ := jf_pool (E := E) (S := q2.2) (fo := fo) adq7
    refine jf_callI hx hb hml hown hts hlv hV (ja_of_met adq7 eq8) ja_of_g_X9 ja_of_d (As := [.ref (E.1 5)]) (Nat.le_of_ble_eq_true rfl) (Nat.le_of_ble_eq_true rfl) hP hS (ci := 5) hq9 rfl hl.1 rfl rfl (lv_room (Nat.le_of_ble_eq_true rfl)) dX9_does_26 (fun H locs hP hS => ?_)
    refine lv_i2l hx hb dX9_does_29 rfl ?_
    exact jo9_does_b30_ok hX F _ x0h _ _ _ _ h _ _ _ hP hS (lv_sub hl [1, 2, 3, 0] rfl)
  · rw [if_pos c6] at h
    refine lv_lconst hx hb dX9_does_17 jx_kl0 ?_
    refine lv_goto (tgt := 30) hx hb dX9_does_18 rfl ?_
    exact jo9_does_b30_ok hX F _ x0h _ _ _ _ h _ _ _ hP hS (lv_sub hl [1, 2, 3, 0] rfl)
theorem jo9_does_met {l : Launch} {D : va_G} {E : jf_E} {A : Nat → Prop} {fo : Nat → Nat → Option Nat} {pl : va_W} {F : Nat} {x0 : jo_R} {x0a : Nat} (x0h : jo_m0 pl x0a x0) {x2 : Int32} {S : jf_S} {out : Int32 × jf_S} (h : jo9_does F x0 x2 S = some out) : jf_Mi l D E A fo pl yX9_does cX9_does 9 (some .int) 1 [.ref x0a, .ref (E.1 5), .int x2] S out :=
  jf_Mi_of (own := RX9) ⟨by decide, rfl, Nat.le_of_ble_eq_true rfl⟩ (fun hX => jo9_does_ok hX F x0 x0h x2 S h)
theorem jo10_does_d : yX10_does.cls = RX10 ∧ yX10_does.cls ≠ "java/lang/invoke/MethodHandle" ∧ yX10_does.cls ≠ "java/lang/invoke/VarHandle" ∧ (parseMethodDescriptor yX10_does.desc).map (fun d => d.parameters.length) = some 2 := by decide +kernel
theorem jo10_does_ok {out : Int32 × jf_S} (hX : jf_Ok RX10 p R s m args meth c A D E cX10_does 3 (some .int) 1) (F : Nat) (x0 : jo_R) {x0a : Nat} (x0h : jo_m1 pl x0a x0) (x2 : Int32) (S : jf_S) (h : jo10_does F x0 x2 S = some out) : jf_J p l e R s m args below meth c A D E fo pl 3 (jf_Qi below args s A D E fo pl out) 0 [(0, .ref x0a), (1, .ref (E.1 5)), (2, .int x2)] [] S := by
  intro H locs ls hP hS hl
  have hX0 := hX
  obtain ⟨hx, hb, hml, hown, hts, hlk, hr, hlv, hV, het⟩ := hX0
  unfold jo10_does at h
  refine lv_aload_n hx hb dX10_does_0 rfl (lv_at hl 1 rfl) ?_
  refine lv_aload_n hx hb dX10_does_1 rfl (lv_at hl 0 rfl) ?_
  obtain ⟨q1, hq1⟩ := jf_pool (E := E) (S := S) (fo := fo) x0h
  refine jf_get hx hb hts in_X10 hown hV hP (ci := 7) (k := 1) hq1 rfl (by decide) (hts _ q1096) rfl rfl dX10_does_2 ?_
  refine lv_aload_n hx hb dX10_does_5 rfl (lv_at hl 0 rfl) ?_
  obtain ⟨q2, hq2⟩ := jf_pool (E := E) (S := S) (fo := fo) x0h
  refine jf_get hx hb hts in_X10 hown hV hP (ci := 7) (k := 2) hq2 rfl (by decide) (hts _ q1098) rfl rfl dX10_does_6 ?_
  obtain ⟨q3, eq3, h⟩ := jx_bi_some h
  refine jf_callV hx hb hml hown hts hlv hV (jk_writes_met eq3) jk_writes_g_X10 jk_writes_d (As := [.int (x0 5), .int (x0 4)]) (Nat.le_of_ble_eq_true rfl) (Nat.le_of_ble_eq_true rfl) hP hS (ci := 4) jf_o5 rfl hl.1 rfl rfl (lv_room (Nat.le_of_ble_eq_true rfl)) dX10_does_9 (fun H locs hP hS => ?_)
  refine lv_iload_n hx hb dX10_does_12 rfl (lv_at hl 2 rfl) ?_
  refine lv_iconst hx hb dX10_does_13 jx_ki1 ?_
  refine lv_iadd hx hb dX10_does_14 ?_
  exact jf_iret hx hb hr hlk hV hP hS h dX10_does_15
theorem jo10_does_met {l : Launch} {D : va_G} {E : jf_E} {A : Nat → Prop} {fo : Nat → Nat → Option Nat} {pl : va_W} {F : Nat} {x0 : jo_R} {x0a : Nat} (x0h : jo_m1 pl x0a x0) {x2 : Int32} {S : jf_S} {out : Int32 × jf_S} (h : jo10_does F x0 x2 S = some out) : jf_Mi l D E A fo pl yX10_does cX10_does 3 (some .int) 1 [.ref x0a, .ref (E.1 5), .int x2] S out :=
  jf_Mi_of (own := RX10) ⟨by decide, rfl, Nat.le_of_ble_eq_true rfl⟩ (fun hX => jo10_does_ok hX F x0 x0h x2 S h)
theorem jo11_does_d : yX11_does.cls = RX11 ∧ yX11_does.cls ≠ "java/lang/invoke/MethodHandle" ∧ yX11_does.cls ≠ "java/lang/invoke/VarHandle" ∧ (parseMethodDescriptor yX11_does.desc).map (fun d => d.parameters.length) = some 2 := by decide +kernel
theorem jo11_does_ok {out : Int32 × jf_S} (hX : jf_Ok RX11 p R s m args meth c A D E cX11_does 3 (some .int) 0) (F : Nat) (x0 : jo_R) {x0a : Nat} (x0h : jo_m2 pl x0a x0) (x2 : Int32) (S : jf_S) (h : jo11_does F x0 x2 S = some out) : jf_J p l e R s m args below meth c A D E fo pl 3 (jf_Qi below args s A D E fo pl out) 0 [(0, .ref x0a), (1, .ref (E.1 5)), (2, .int x2)] [] S := by
  intro H locs ls hP hS hl
  have hX0 := hX
  obtain ⟨hx, hb, hml, hown, hts, hlk, hr, hlv, hV, het⟩ := hX0
  unfold jo11_does at h
  refine lv_aload_n hx hb dX11_does_0 rfl (lv_at hl 0 rfl) ?_
  obtain ⟨q1, hq1⟩ := jf_pool (E := E) (S := S) (fo := fo) x0h
  refine jf_get hx hb hts in_X11 hown hV hP (ci := 8) (k := 1) hq1 rfl (by decide) (hts _ q1112) rfl rfl dX11_does_1 ?_
  exact jf_iret hx hb hr hlk hV hP hS h dX11_does_4
theorem jo11_does_met {l : Launch} {D : va_G} {E : jf_E} {A : Nat → Prop} {fo : Nat → Nat → Option Nat} {pl : va_W} {F : Nat} {x0 : jo_R} {x0a : Nat} (x0h : jo_m2 pl x0a x0) {x2 : Int32} {S : jf_S} {out : Int32 × jf_S} (h : jo11_does F x0 x2 S = some out) : jf_Mi l D E A fo pl yX11_does cX11_does 3 (some .int) 0 [.ref x0a, .ref (E.1 5), .int x2] S out :=
  jf_Mi_of (own := RX11) ⟨by decide, rfl, Nat.le_of_ble_eq_true rfl⟩ (fun hX => jo11_does_ok hX F x0 x0h x2 S h)
theorem jo12_does_d : yX12_does.cls = RX12 ∧ yX12_does.cls ≠ "java/lang/invoke/MethodHandle" ∧ yX12_does.cls ≠ "java/lang/invoke/VarHandle" ∧ (parseMethodDescriptor yX12_does.desc).map (fun d => d.parameters.length) = some 2 := by decide +kernel
theorem jo12_does_ok {out : Int32 × jf_S} (hX : jf_Ok RX12 p R s m args meth c A D E cX12_does 3 (some .int) 1) (F : Nat) (x0 : jo_R) {x0a : Nat} (x0h : jo_m3 pl x0a x0) (x2 : Int32) (S : jf_S) (h : jo12_does F x0 x2 S = some out) : jf_J p l e R s m args below meth c A D E fo pl 3 (jf_Qi below args s A D E fo pl out) 0 [(0, .ref x0a), (1, .ref (E.1 5)), (2, .int x2)] [] S := by
  intro H locs ls hP hS hl
  have hX0 := hX
  obtain ⟨hx, hb, hml, hown, hts, hlk, hr, hlv, hV, het⟩ := hX0
  unfold jo12_does at h
  refine lv_aload_n hx hb dX12_does_0 rfl (lv_at hl 0 rfl) ?_
  obtain ⟨q1, bq1, dq1, hq1, aq1, cq1⟩ := jo_f3 (E := E) (S := S) (fo := fo) x0h
  refine jf_get hx hb hts in_X12 hown hV hP (ci := 9) (k := 1) hq1 rfl (by decide) (hts _ q1127) rfl rfl dX12_does_1 ?_
  refine lv_aload_n hx hb dX12_does_4 rfl (lv_at hl 1 rfl) ?_
  obtain ⟨q2, eq2, h⟩ := jx_bi_some h
  obtain ⟨q3, hq3⟩ := jf_pool (E := E) (S := S) (fo := fo) aq1
  refine jf_callI hx hb hml hown hts hlv hV (ja_of_met aq1 eq2) ja_of_g_X12 ja_of_d (As := [.ref (E.1 5)]) (Nat.le_of_ble_eq_true rfl) (Nat.le_of_ble_eq_true rfl) hP hS (ci := 5) hq3 rfl hl.1 rfl rfl (lv_room (Nat.le_of_ble_eq_true rfl)) dX12_does_5 (fun H locs hP hS => ?_)
  refine lv_aload_n hx hb dX12_does_8 rfl (lv_at hl 0 rfl) ?_
  obtain ⟨q4, bq4, dq4, hq4, aq4, cq4⟩ := jo_f3 (E := E) (S := q2.2) (fo := fo) x0h
  refine jf_get hx hb hts in_X12 hown hV hP (ci := 9) (k := 3) hq4 rfl (by decide) (hts _ q1131) rfl rfl dX12_does_9 ?_
  refine lv_aload_n hx hb dX12_does_12 rfl (lv_at hl 0 rfl) ?_
  obtain ⟨q5, bq5, dq5, hq5, aq5, cq5⟩ := jo_f3 (E := E) (S := q2.2) (fo := fo) x0h
  refine jf_get hx hb hts in_X12 hown hV hP (ci := 9) (k := 2) hq5 rfl (by decide) (hts _ q1129) rfl rfl dX12_does_13 ?_
  refine lv_aload_n hx hb dX12_does_16 rfl (lv_at hl 1 rfl) ?_
  obtain ⟨q6, eq6, h⟩ := jx_bi_some h
  obtain ⟨q7, hq7⟩ := jf_pool (E := E) (S := q2.2) (fo := fo) cq5
  refine jf_callI hx hb hml hown hts hlv hV (ja_of_met cq5 eq6) ja_of_g_X12 ja_of_d (As := [.ref (E.1 5)]) (Nat.le_of_ble_eq_true rfl) (Nat.le_of_ble_eq_true rfl) hP hS (ci := 5) hq7 rfl hl.1 rfl rfl (lv_room (Nat.le_of_ble_eq_true rfl)) dX12_does_17 (fun H locs hP hS => ?_)
  obtain ⟨q8, eq8, h⟩ := jx_bi_some h
  refine jx_callSi hx hb hml hown hts (jf_ifHolds_met eq8) jf_ifHolds_g_X12 jf_ifHolds_d (As := [.int q2.1, .int (x0 8), .int q6.1]) (⟨Nat.le_trans (Nat.le_of_ble_eq_true rfl) hlv.1, Nat.le_trans (Nat.le_of_ble_eq_true rfl) hlv.2⟩) hl.1 rfl rfl (lv_room (Nat.le_of_ble_eq_true rfl)) dX12_does_20 ⟨Nat.zero_le _, Nat.zero_le _⟩ ?_
  refine lv_if_eq (tgt := 33) hx hb dX12_does_23 rfl (fun c9 => ?_) (fun c9 => ?_)
  · rw [if_pos c9] at h
    refine lv_iload_n hx hb dX12_does_33 rfl (lv_at hl 2 rfl) ?_
    refine lv_iconst hx hb dX12_does_34 jx_ki1 ?_
    refine lv_iadd hx hb dX12_does_35 ?_
    exact jf_iret hx hb hr hlk hV hP hS h dX12_does_36
  · rw [if_neg c9] at h
    refine lv_aload_n hx hb dX12_does_26 rfl (lv_at hl 0 rfl) ?_
    obtain ⟨q10, bq10, dq10, hq10, aq10, cq10⟩ := jo_f3 (E := E) (S := q6.2) (fo := fo) x0h
    refine jf_get hx hb hts in_X12 hown hV hP (ci := 9) (k := 4) hq10 rfl (by decide) (hts _ q1133) rfl rfl dX12_does_27 ?_
    refine lv_goto (tgt := 36) hx hb dX12_does_30 rfl ?_
    exact jf_iret hx hb hr hlk hV hP hS h dX12_does_36
theorem jo12_does_met {l : Launch} {D : va_G} {E : jf_E} {A : Nat → Prop} {fo : Nat → Nat → Option Nat} {pl : va_W} {F : Nat} {x0 : jo_R} {x0a : Nat} (x0h : jo_m3 pl x0a x0) {x2 : Int32} {S : jf_S} {out : Int32 × jf_S} (h : jo12_does F x0 x2 S = some out) : jf_Mi l D E A fo pl yX12_does cX12_does 3 (some .int) 1 [.ref x0a, .ref (E.1 5), .int x2] S out :=
  jf_Mi_of (own := RX12) ⟨by decide, rfl, Nat.le_of_ble_eq_true rfl⟩ (fun hX => jo12_does_ok hX F x0 x0h x2 S h)
theorem jo9_word_d : yX9_word.cls = RX9 ∧ yX9_word.cls ≠ "java/lang/invoke/MethodHandle" ∧ yX9_word.cls ≠ "java/lang/invoke/VarHandle" ∧ (parseMethodDescriptor yX9_word.desc).map (fun d => d.parameters.length) = some 0 := by decide +kernel
theorem jo9_word_ok {out : Int32 × jf_S} (hX : jf_Ok RX9 p R s m args meth c A D E cX9_word 1 (some .int) 0) (F : Nat) (x0 : jo_R) {x0a : Nat} (x0h : jo_m0 pl x0a x0) (S : jf_S) (h : jo9_word F x0 S = some out) : jf_J p l e R s m args below meth c A D E fo pl 1 (jf_Qi below args s A D E fo pl out) 0 [(0, .ref x0a)] [] S := by
  intro H locs ls hP hS hl
  have hX0 := hX
  obtain ⟨hx, hb, hml, hown, hts, hlk, hr, hlv, hV, het⟩ := hX0
  unfold jo9_word at h
  refine lv_iconst hx hb dX9_word_0 jx_ki0 ?_
  exact jf_iret hx hb hr hlk hV hP hS h dX9_word_1
theorem jo9_word_met {l : Launch} {D : va_G} {E : jf_E} {A : Nat → Prop} {fo : Nat → Nat → Option Nat} {pl : va_W} {F : Nat} {x0 : jo_R} {x0a : Nat} (x0h : jo_m0 pl x0a x0) {S : jf_S} {out : Int32 × jf_S} (h : jo9_word F x0 S = some out) : jf_Mi l D E A fo pl yX9_word cX9_word 1 (some .int) 0 [.ref x0a] S out :=
  jf_Mi_of (own := RX9) ⟨by decide, rfl, Nat.le_of_ble_eq_true rfl⟩ (fun hX => jo9_word_ok hX F x0 x0h S h)
theorem jo10_word_d : yX10_word.cls = RX10 ∧ yX10_word.cls ≠ "java/lang/invoke/MethodHandle" ∧ yX10_word.cls ≠ "java/lang/invoke/VarHandle" ∧ (parseMethodDescriptor yX10_word.desc).map (fun d => d.parameters.length) = some 0 := by decide +kernel
theorem jo10_word_ok {out : Int32 × jf_S} (hX : jf_Ok RX10 p R s m args meth c A D E cX10_word 1 (some .int) 0) (F : Nat) (x0 : jo_R) {x0a : Nat} (x0h : jo_m1 pl x0a x0) (S : jf_S) (h : jo10_word F x0 S = some out) : jf_J p l e R s m args below meth c A D E fo pl 1 (jf_Qi below args s A D E fo pl out) 0 [(0, .ref x0a)] [] S := by
  intro H locs ls hP hS hl
  have hX0 := hX
  obtain ⟨hx, hb, hml, hown, hts, hlk, hr, hlv, hV, het⟩ := hX0
  unfold jo10_word at h
  refine lv_iconst hx hb dX10_word_0 jx_ki1 ?_
  exact jf_iret hx hb hr hlk hV hP hS h dX10_word_1
theorem jo10_word_met {l : Launch} {D : va_G} {E : jf_E} {A : Nat → Prop} {fo : Nat → Nat → Option Nat} {pl : va_W} {F : Nat} {x0 : jo_R} {x0a : Nat} (x0h : jo_m1 pl x0a x0) {S : jf_S} {out : Int32 × jf_S} (h : jo10_word F x0 S = some out) : jf_Mi l D E A fo pl yX10_word cX10_word 1 (some .int) 0 [.ref x0a] S out :=
  jf_Mi_of (own := RX10) ⟨by decide, rfl, Nat.le_of_ble_eq_true rfl⟩ (fun hX => jo10_word_ok hX F x0 x0h S h)
theorem jo11_word_d : yX11_word.cls = RX11 ∧ yX11_word.cls ≠ "java/lang/invoke/MethodHandle" ∧ yX11_word.cls ≠ "java/lang/invoke/VarHandle" ∧ (parseMethodDescriptor yX11_word.desc).map (fun d => d.parameters.length) = some 0 := by decide +kernel
theorem jo11_word_ok {out : Int32 × jf_S} (hX : jf_Ok RX11 p R s m args meth c A D E cX11_word 1 (some .int) 0) (F : Nat) (x0 : jo_R) {x0a : Nat} (x0h : jo_m2 pl x0a x0) (S : jf_S) (h : jo11_word F x0 S = some out) : jf_J p l e R s m args below meth c A D E fo pl 1 (jf_Qi below args s A D E fo pl out) 0 [(0, .ref x0a)] [] S := by
  intro H locs ls hP hS hl
  have hX0 := hX
  obtain ⟨hx, hb, hml, hown, hts, hlk, hr, hlv, hV, het⟩ := hX0
  unfold jo11_word at h
  refine lv_iconst hx hb dX11_word_0 jx_ki2 ?_
  exact jf_iret hx hb hr hlk hV hP hS h dX11_word_1
theorem jo11_word_met {l : Launch} {D : va_G} {E : jf_E} {A : Nat → Prop} {fo : Nat → Nat → Option Nat} {pl : va_W} {F : Nat} {x0 : jo_R} {x0a : Nat} (x0h : jo_m2 pl x0a x0) {S : jf_S} {out : Int32 × jf_S} (h : jo11_word F x0 S = some out) : jf_Mi l D E A fo pl yX11_word cX11_word 1 (some .int) 0 [.ref x0a] S out :=
  jf_Mi_of (own := RX11) ⟨by decide, rfl, Nat.le_of_ble_eq_true rfl⟩ (fun hX => jo11_word_ok hX F x0 x0h S h)
theorem jo12_word_d : yX12_word.cls = RX12 ∧ yX12_word.cls ≠ "java/lang/invoke/MethodHandle" ∧ yX12_word.cls ≠ "java/lang/invoke/VarHandle" ∧ (parseMethodDescriptor yX12_word.desc).map (fun d => d.parameters.length) = some 0 := by decide +kernel
theorem jo12_word_ok {out : Int32 × jf_S} (hX : jf_Ok RX12 p R s m args meth c A D E cX12_word 1 (some .int) 0) (F : Nat) (x0 : jo_R) {x0a : Nat} (x0h : jo_m3 pl x0a x0) (S : jf_S) (h : jo12_word F x0 S = some out) : jf_J p l e R s m args below meth c A D E fo pl 1 (jf_Qi below args s A D E fo pl out) 0 [(0, .ref x0a)] [] S := by
  intro H locs ls hP hS hl
  have hX0 := hX
  obtain ⟨hx, hb, hml, hown, hts, hlk, hr, hlv, hV, het⟩ := hX0
  unfold jo12_word at h
  refine lv_iconst hx hb dX12_word_0 jx_ki3 ?_
  exact jf_iret hx hb hr hlk hV hP hS h dX12_word_1
theorem jo12_word_met {l : Launch} {D : va_G} {E : jf_E} {A : Nat → Prop} {fo : Nat → Nat → Option Nat} {pl : va_W} {F : Nat} {x0 : jo_R} {x0a : Nat} (x0h : jo_m3 pl x0a x0) {S : jf_S} {out : Int32 × jf_S} (h : jo12_word F x0 S = some out) : jf_Mi l D E A fo pl yX12_word cX12_word 1 (some .int) 0 [.ref x0a] S out :=
  jf_Mi_of (own := RX12) ⟨by decide, rfl, Nat.le_of_ble_eq_true rfl⟩ (fun hX => jo12_word_ok hX F x0 x0h S h)
theorem jo13_word_d : yX13_word.cls = RX13 ∧ yX13_word.cls ≠ "java/lang/invoke/MethodHandle" ∧ yX13_word.cls ≠ "java/lang/invoke/VarHandle" ∧ (parseMethodDescriptor yX13_word.desc).map (fun d => d.parameters.length) = some 0 := by decide +kernel
theorem jo13_word_ok {out : Int32 × jf_S} (hX : jf_Ok RX13 p R s m args meth c A D E cX13_word 1 (some .int) 0) (F : Nat) (x0 : jo_R) {x0a : Nat} (x0h : jo_mT pl x0a x0) (S : jf_S) (h : jo13_word F x0 S = some out) : jf_J p l e R s m args below meth c A D E fo pl 1 (jf_Qi below args s A D E fo pl out) 0 [(0, .ref x0a)] [] S := by
  intro H locs ls hP hS hl
  have hX0 := hX
  obtain ⟨hx, hb, hml, hown, hts, hlk, hr, hlv, hV, het⟩ := hX0
  unfold jo13_word at h
  refine lv_iconst hx hb dX13_word_0 jx_ki4 ?_
  exact jf_iret hx hb hr hlk hV hP hS h dX13_word_1
theorem jo13_word_met {l : Launch} {D : va_G} {E : jf_E} {A : Nat → Prop} {fo : Nat → Nat → Option Nat} {pl : va_W} {F : Nat} {x0 : jo_R} {x0a : Nat} (x0h : jo_mT pl x0a x0) {S : jf_S} {out : Int32 × jf_S} (h : jo13_word F x0 S = some out) : jf_Mi l D E A fo pl yX13_word cX13_word 1 (some .int) 0 [.ref x0a] S out :=
  jf_Mi_of (own := RX13) ⟨by decide, rfl, Nat.le_of_ble_eq_true rfl⟩ (fun hX => jo13_word_ok hX F x0 x0h S h)
theorem jo14_word_d : yX14_word.cls = RX14 ∧ yX14_word.cls ≠ "java/lang/invoke/MethodHandle" ∧ yX14_word.cls ≠ "java/lang/invoke/VarHandle" ∧ (parseMethodDescriptor yX14_word.desc).map (fun d => d.parameters.length) = some 0 := by decide +kernel
theorem jo14_word_ok {out : Int32 × jf_S} (hX : jf_Ok RX14 p R s m args meth c A D E cX14_word 1 (some .int) 0) (F : Nat) (x0 : jo_R) {x0a : Nat} (x0h : jo_m5 pl x0a x0) (S : jf_S) (h : jo14_word F x0 S = some out) : jf_J p l e R s m args below meth c A D E fo pl 1 (jf_Qi below args s A D E fo pl out) 0 [(0, .ref x0a)] [] S := by
  intro H locs ls hP hS hl
  have hX0 := hX
  obtain ⟨hx, hb, hml, hown, hts, hlk, hr, hlv, hV, het⟩ := hX0
  unfold jo14_word at h
  refine lv_iconst hx hb dX14_word_0 jx_ki5 ?_
  exact jf_iret hx hb hr hlk hV hP hS h dX14_word_1
theorem jo14_word_met {l : Launch} {D : va_G} {E : jf_E} {A : Nat → Prop} {fo : Nat → Nat → Option Nat} {pl : va_W} {F : Nat} {x0 : jo_R} {x0a : Nat} (x0h : jo_m5 pl x0a x0) {S : jf_S} {out : Int32 × jf_S} (h : jo14_word F x0 S = some out) : jf_Mi l D E A fo pl yX14_word cX14_word 1 (some .int) 0 [.ref x0a] S out :=
  jf_Mi_of (own := RX14) ⟨by decide, rfl, Nat.le_of_ble_eq_true rfl⟩ (fun hX => jo14_word_ok hX F x0 x0h S h)
theorem jo15_word_d : yX15_word.cls = RX15 ∧ yX15_word.cls ≠ "java/lang/invoke/MethodHandle" ∧ yX15_word.cls ≠ "java/lang/invoke/VarHandle" ∧ (parseMethodDescriptor yX15_word.desc).map (fun d => d.parameters.length) = some 0 := by decide +kernel
theorem jo15_word_ok {out : Int32 × jf_S} (hX : jf_Ok RX15 p R s m args meth c A D E cX15_word 1 (some .int) 0) (F : Nat) (x0 : jo_R) {x0a : Nat} (x0h : jo_m6 pl x0a x0) (S : jf_S) (h : jo15_word F x0 S = some out) : jf_J p l e R s m args below meth c A D E fo pl 1 (jf_Qi below args s A D E fo pl out) 0 [(0, .ref x0a)] [] S := by
  intro H locs ls hP hS hl
  have hX0 := hX
  obtain ⟨hx, hb, hml, hown, hts, hlk, hr, hlv, hV, het⟩ := hX0
  unfold jo15_word at h
  refine lv_bipush hx hb dX15_word_0 jx_kb6 ?_
  exact jf_iret hx hb hr hlk hV hP hS h dX15_word_2
theorem jo15_word_met {l : Launch} {D : va_G} {E : jf_E} {A : Nat → Prop} {fo : Nat → Nat → Option Nat} {pl : va_W} {F : Nat} {x0 : jo_R} {x0a : Nat} (x0h : jo_m6 pl x0a x0) {S : jf_S} {out : Int32 × jf_S} (h : jo15_word F x0 S = some out) : jf_Mi l D E A fo pl yX15_word cX15_word 1 (some .int) 0 [.ref x0a] S out :=
  jf_Mi_of (own := RX15) ⟨by decide, rfl, Nat.le_of_ble_eq_true rfl⟩ (fun hX => jo15_word_ok hX F x0 x0h S h)
theorem jo16_word_d : yX16_word.cls = RX16 ∧ yX16_word.cls ≠ "java/lang/invoke/MethodHandle" ∧ yX16_word.cls ≠ "java/lang/invoke/VarHandle" ∧ (parseMethodDescriptor yX16_word.desc).map (fun d => d.parameters.length) = some 0 := by decide +kernel
theorem jo16_word_ok {out : Int32 × jf_S} (hX : jf_Ok RX16 p R s m args meth c A D E cX16_word 1 (some .int) 0) (F : Nat) (x0 : jo_R) {x0a : Nat} (x0h : jo_m7 pl x0a x0) (S : jf_S) (h : jo16_word F x0 S = some out) : jf_J p l e R s m args below meth c A D E fo pl 1 (jf_Qi below args s A D E fo pl out) 0 [(0, .ref x0a)] [] S := by
  intro H locs ls hP hS hl
  have hX0 := hX
  obtain ⟨hx, hb, hml, hown, hts, hlk, hr, hlv, hV, het⟩ := hX0
  unfold jo16_word at h
  refine lv_bipush hx hb dX16_word_0 jx_kb7 ?_
  exact jf_iret hx hb hr hlk hV hP hS h dX16_word_2
theorem jo16_word_met {l : Launch} {D : va_G} {E : jf_E} {A : Nat → Prop} {fo : Nat → Nat → Option Nat} {pl : va_W} {F : Nat} {x0 : jo_R} {x0a : Nat} (x0h : jo_m7 pl x0a x0) {S : jf_S} {out : Int32 × jf_S} (h : jo16_word F x0 S = some out) : jf_Mi l D E A fo pl yX16_word cX16_word 1 (some .int) 0 [.ref x0a] S out :=
  jf_Mi_of (own := RX16) ⟨by decide, rfl, Nat.le_of_ble_eq_true rfl⟩ (fun hX => jo16_word_ok hX F x0 x0h S h)
theorem jo17_word_d : yX17_word.cls = RX17 ∧ yX17_word.cls ≠ "java/lang/invoke/MethodHandle" ∧ yX17_word.cls ≠ "java/lang/invoke/VarHandle" ∧ (parseMethodDescriptor yX17_word.desc).map (fun d => d.parameters.length) = some 0 := by decide +kernel
theorem jo17_word_ok {out : Int32 × jf_S} (hX : jf_Ok RX17 p R s m args meth c A D E cX17_word 1 (some .int) 0) (F : Nat) (x0 : jo_R) {x0a : Nat} (x0h : jo_m8 pl x0a x0) (S : jf_S) (h : jo17_word F x0 S = some out) : jf_J p l e R s m args below meth c A D E fo pl 1 (jf_Qi below args s A D E fo pl out) 0 [(0, .ref x0a)] [] S := by
  intro H locs ls hP hS hl
  have hX0 := hX
  obtain ⟨hx, hb, hml, hown, hts, hlk, hr, hlv, hV, het⟩ := hX0
  unfold jo17_word at h
  refine lv_bipush hx hb dX17_word_0 jx_kb8 ?_
  exact jf_iret hx hb hr hlk hV hP hS h dX17_word_2
theorem jo17_word_met {l : Launch} {D : va_G} {E : jf_E} {A : Nat → Prop} {fo : Nat → Nat → Option Nat} {pl : va_W} {F : Nat} {x0 : jo_R} {x0a : Nat} (x0h : jo_m8 pl x0a x0) {S : jf_S} {out : Int32 × jf_S} (h : jo17_word F x0 S = some out) : jf_Mi l D E A fo pl yX17_word cX17_word 1 (some .int) 0 [.ref x0a] S out :=
  jf_Mi_of (own := RX17) ⟨by decide, rfl, Nat.le_of_ble_eq_true rfl⟩ (fun hX => jo17_word_ok hX F x0 x0h S h)
theorem jo18_word_d : yX18_word.cls = RX18 ∧ yX18_word.cls ≠ "java/lang/invoke/MethodHandle" ∧ yX18_word.cls ≠ "java/lang/invoke/VarHandle" ∧ (parseMethodDescriptor yX18_word.desc).map (fun d => d.parameters.length) = some 0 := by decide +kernel
theorem jo18_word_ok {out : Int32 × jf_S} (hX : jf_Ok RX18 p R s m args meth c A D E cX18_word 1 (some .int) 0) (F : Nat) (x0 : jo_R) {x0a : Nat} (x0h : jo_m9 pl x0a x0) (S : jf_S) (h : jo18_word F x0 S = some out) : jf_J p l e R s m args below meth c A D E fo pl 1 (jf_Qi below args s A D E fo pl out) 0 [(0, .ref x0a)] [] S := by
  intro H locs ls hP hS hl
  have hX0 := hX
  obtain ⟨hx, hb, hml, hown, hts, hlk, hr, hlv, hV, het⟩ := hX0
  unfold jo18_word at h
  refine lv_bipush hx hb dX18_word_0 jx_kb9 ?_
  exact jf_iret hx hb hr hlk hV hP hS h dX18_word_2
theorem jo18_word_met {l : Launch} {D : va_G} {E : jf_E} {A : Nat → Prop} {fo : Nat → Nat → Option Nat} {pl : va_W} {F : Nat} {x0 : jo_R} {x0a : Nat} (x0h : jo_m9 pl x0a x0) {S : jf_S} {out : Int32 × jf_S} (h : jo18_word F x0 S = some out) : jf_Mi l D E A fo pl yX18_word cX18_word 1 (some .int) 0 [.ref x0a] S out :=
  jf_Mi_of (own := RX18) ⟨by decide, rfl, Nat.le_of_ble_eq_true rfl⟩ (fun hX => jo18_word_ok hX F x0 x0h S h)
theorem jv_word_X1 {F nL lv a : Nat} {r : jo_R}  {out : Int32 × jf_S} {stk : List Value} (hx : p.tables.exec = Jvm.exec) (hb : c.code = cc) (hml : c.maxLocals = nL) (hown : s.vm.findClass RX1 = some m.cls) (hts : ∀ w ∈ lw_all, w.before args s = true) (hlv : jx_hr R lv) (hV : jf_V D E A s) (hi : jo_Is pl a r) (e1 : jv_word F r  S = some out) (h1 : 0 + 1 ≤ lv) (hP : jf_P D E A S fo pl H) (hS : va_S A s.heap H locs) (hls : ls.size = nL) (_ : (1 : Nat) = 1) (hst : stk = ([] : List Value).reverse ++ .ref a :: rest) (hW : 2 * (F0 m pc ls stk).monitorRoom + (rest.map fun v => v.category).sum ≤ 8) (hdg : decode cc pc = .ok (.invokevirtual 134, 3))
    (kk : ∀ (H : Heap) (locs : List Loc), jf_P D E A out.2 fo pl H → va_S A s.heap H locs → W p l e R s m args below meth c H locs 0 0 Q (F0 m (pc + 3) ls (.int out.1 :: rest))) : W p l e R s m args below meth c H locs 0 0 Q (F0 m pc ls stk) := by
  obtain ⟨hv1, hv2⟩ := hlv
  rcases hi with ⟨e0, h0⟩ | ⟨e0, h0⟩ | ⟨e0, h0⟩ | ⟨e0, h0⟩ | ⟨e0, h0⟩ | ⟨e0, h0⟩ | ⟨e0, h0⟩ | ⟨e0, h0⟩ | ⟨e0, h0⟩ | ⟨e0, h0⟩
  · rw [jv_word, if_pos e0] at e1
    obtain ⟨q0, _, _, hq, -, -⟩ := jo_f0 (E := E) (S := S) (fo := fo) h0
    exact jf_vcallI hx hb hml hown hts hV (jo9_word_met h0 e1) (va_cwA (x := ⟨"JumpFence$Order", "word", "()I"⟩) (owner := "JumpFence$Order") 0 hts (jf_lwU q924 q567 q589 q590 q117 q591) rfl rfl rfl (hV.2.2.1.2.2.2 ⟨"JumpFence$Order", "word", "()I"⟩ (by decide)) (by decide +kernel) ⟨by show 0 + 1 ≤ R.frames; omega, by show 8 + (1 + 11) + 40 * 0 ≤ R.locals; omega⟩) hP hS (ci := 6) hq rfl hls rfl hst hW hdg kk
  · rw [jv_word, if_neg (by rw [e0]; decide), if_pos e0] at e1
    obtain ⟨q0, hq⟩ := jf_pool (E := E) (S := S) (fo := fo) h0
    exact jf_vcallI hx hb hml hown hts hV (jo10_word_met h0 e1) (va_cwA (x := ⟨"JumpFence$Order", "word", "()I"⟩) (owner := "JumpFence$Order") 0 hts (jf_lwU q924 q567 q586 q587 q118 q588) rfl rfl rfl (hV.2.2.1.2.2.2 ⟨"JumpFence$Order", "word", "()I"⟩ (by decide)) (by decide +kernel) ⟨by show 0 + 1 ≤ R.frames; omega, by show 8 + (1 + 11) + 40 * 0 ≤ R.locals; omega⟩) hP hS (ci := 7) hq rfl hls rfl hst hW hdg kk
  · rw [jv_word, if_neg (by rw [e0]; decide), if_neg (by rw [e0]; decide), if_pos e0] at e1
    obtain ⟨q0, hq⟩ := jf_pool (E := E) (S := S) (fo := fo) h0
    exact jf_vcallI hx hb hml hown hts hV (jo11_word_met h0 e1) (va_cwA (x := ⟨"JumpFence$Order", "word", "()I"⟩) (owner := "JumpFence$Order") 0 hts (jf_lwU q924 q567 q583 q584 q119 q585) rfl rfl rfl (hV.2.2.1.2.2.2 ⟨"JumpFence$Order", "word", "()I"⟩ (by decide)) (by decide +kernel) ⟨by show 0 + 1 ≤ R.frames; omega, by show 8 + (1 + 11) + 40 * 0 ≤ R.locals; omega⟩) hP hS (ci := 8) hq rfl hls rfl hst hW hdg kk
  · rw [jv_word, if_neg (by rw [e0]; decide), if_neg (by rw [e0]; decide), if_neg (by rw [e0]; decide), if_pos e0] at e1
    obtain ⟨q0, _, _, hq, -, -⟩ := jo_f3 (E := E) (S := S) (fo := fo) h0
    exact jf_vcallI hx hb hml hown hts hV (jo12_word_met h0 e1) (va_cwA (x := ⟨"JumpFence$Order", "word", "()I"⟩) (owner := "JumpFence$Order") 0 hts (jf_lwU q924 q567 q580 q581 q120 q582) rfl rfl rfl (hV.2.2.1.2.2.2 ⟨"JumpFence$Order", "word", "()I"⟩ (by decide)) (by decide +kernel) ⟨by show 0 + 1 ≤ R.frames; omega, by show 8 + (1 + 11) + 40 * 0 ≤ R.locals; omega⟩) hP hS (ci := 9) hq rfl hls rfl hst hW hdg kk
  · rw [jv_word, if_neg (by rw [e0]; decide), if_neg (by rw [e0]; decide), if_neg (by rw [e0]; decide), if_neg (by rw [e0]; decide), if_pos e0] at e1
    obtain ⟨q0, hq⟩ := jf_pool (E := E) (S := S) (fo := fo) h0
    exact jf_vcallI hx hb hml hown hts hV (jo13_word_met (Or.inl h0) e1) (va_cwA (x := ⟨"JumpFence$Order", "word", "()I"⟩) (owner := "JumpFence$Order") 0 hts (jf_lwU q924 q567 q595 q596 q121 q597) rfl rfl rfl (hV.2.2.1.2.2.2 ⟨"JumpFence$Order", "word", "()I"⟩ (by decide)) (by decide +kernel) ⟨by show 0 + 1 ≤ R.frames; omega, by show 8 + (1 + 11) + 40 * 0 ≤ R.locals; omega⟩) hP hS (ci := 10) hq rfl hls rfl hst hW hdg kk
  · rw [jv_word, if_neg (by rw [e0]; decide), if_neg (by rw [e0]; decide), if_neg (by rw [e0]; decide), if_neg (by rw [e0]; decide), if_neg (by rw [e0]; decide), if_pos e0] at e1
    obtain ⟨q0, hq⟩ := jf_pool (E := E) (S := S) (fo := fo) h0
    exact jf_vcallI hx hb hml hown hts hV (jo14_word_met h0 e1) (va_cwA (x := ⟨"JumpFence$Order", "word", "()I"⟩) (owner := "JumpFence$Order") 0 hts (jf_lwU q924 q567 q574 q575 q122 q576) rfl rfl rfl (hV.2.2.1.2.2.2 ⟨"JumpFence$Order", "word", "()I"⟩ (by decide)) (by decide +kernel) ⟨by show 0 + 1 ≤ R.frames; omega, by show 8 + (1 + 11) + 40 * 0 ≤ R.locals; omega⟩) hP hS (ci := 11) hq rfl hls rfl hst hW hdg kk
  · rw [jv_word, if_neg (by rw [e0]; decide), if_neg (by rw [e0]; decide), if_neg (by rw [e0]; decide), if_neg (by rw [e0]; decide), if_neg (by rw [e0]; decide), if_neg (by rw [e0]; decide), if_pos e0] at e1
    obtain ⟨q0, hq⟩ := jf_pool (E := E) (S := S) (fo := fo) h0
    exact jf_vcallI hx hb hml hown hts hV (jo15_word_met h0 e1) (va_cwA (x := ⟨"JumpFence$Order", "word", "()I"⟩) (owner := "JumpFence$Order") 0 hts (jf_lwU q924 q567 q571 q572 q123 q573) rfl rfl rfl (hV.2.2.1.2.2.2 ⟨"JumpFence$Order", "word", "()I"⟩ (by decide)) (by decide +kernel) ⟨by show 0 + 1 ≤ R.frames; omega, by show 8 + (1 + 11) + 40 * 0 ≤ R.locals; omega⟩) hP hS (ci := 12) hq rfl hls rfl hst hW hdg kk
  · rw [jv_word, if_neg (by rw [e0]; decide), if_neg (by rw [e0]; decide), if_neg (by rw [e0]; decide), if_neg (by rw [e0]; decide), if_neg (by rw [e0]; decide), if_neg (by rw [e0]; decide), if_neg (by rw [e0]; decide), if_pos e0] at e1
    obtain ⟨q0, hq⟩ := jf_pool (E := E) (S := S) (fo := fo) h0
    exact jf_vcallI hx hb hml hown hts hV (jo16_word_met h0 e1) (va_cwA (x := ⟨"JumpFence$Order", "word", "()I"⟩) (owner := "JumpFence$Order") 0 hts (jf_lwU q924 q567 q568 q569 q124 q570) rfl rfl rfl (hV.2.2.1.2.2.2 ⟨"JumpFence$Order", "word", "()I"⟩ (by decide)) (by decide +kernel) ⟨by show 0 + 1 ≤ R.frames; omega, by show 8 + (1 + 11) + 40 * 0 ≤ R.locals; omega⟩) hP hS (ci := 13) hq rfl hls rfl hst hW hdg kk
  · rw [jv_word, if_neg (by rw [e0]; decide), if_neg (by rw [e0]; decide), if_neg (by rw [e0]; decide), if_neg (by rw [e0]; decide), if_neg (by rw [e0]; decide), if_neg (by rw [e0]; decide), if_neg (by rw [e0]; decide), if_neg (by rw [e0]; decide), if_pos e0] at e1
    obtain ⟨q0, _, hq, -⟩ := jo_f8 (E := E) (S := S) (fo := fo) h0
    exact jf_vcallI hx hb hml hown hts hV (jo17_word_met h0 e1) (va_cwA (x := ⟨"JumpFence$Order", "word", "()I"⟩) (owner := "JumpFence$Order") 0 hts (jf_lwU q924 q567 q577 q578 q125 q579) rfl rfl rfl (hV.2.2.1.2.2.2 ⟨"JumpFence$Order", "word", "()I"⟩ (by decide)) (by decide +kernel) ⟨by show 0 + 1 ≤ R.frames; omega, by show 8 + (1 + 11) + 40 * 0 ≤ R.locals; omega⟩) hP hS (ci := 14) hq rfl hls rfl hst hW hdg kk
  · rw [jv_word, if_neg (by rw [e0]; decide), if_neg (by rw [e0]; decide), if_neg (by rw [e0]; decide), if_neg (by rw [e0]; decide), if_neg (by rw [e0]; decide), if_neg (by rw [e0]; decide), if_neg (by rw [e0]; decide), if_neg (by rw [e0]; decide), if_neg (by rw [e0]; decide), if_pos e0] at e1
    obtain ⟨q0, hq⟩ := jf_pool (E := E) (S := S) (fo := fo) h0
    exact jf_vcallI hx hb hml hown hts hV (jo18_word_met h0 e1) (va_cwA (x := ⟨"JumpFence$Order", "word", "()I"⟩) (owner := "JumpFence$Order") 0 hts (jf_lwU q924 q567 q592 q593 q126 q594) rfl rfl rfl (hV.2.2.1.2.2.2 ⟨"JumpFence$Order", "word", "()I"⟩ (by decide)) (by decide +kernel) ⟨by show 0 + 1 ≤ R.frames; omega, by show 8 + (1 + 11) + 40 * 0 ≤ R.locals; omega⟩) hP hS (ci := 15) hq rfl hls rfl hst hW hdg kk
theorem jv_word_X4 {F nL lv a : Nat} {r : jo_R}  {out : Int32 × jf_S} {stk : List Value} (hx : p.tables.exec = Jvm.exec) (hb : c.code = cc) (hml : c.maxLocals = nL) (hown : s.vm.findClass RX4 = some m.cls) (hts : ∀ w ∈ lw_all, w.before args s = true) (hlv : jx_hr R lv) (hV : jf_V D E A s) (hi : jo_Is pl a r) (e1 : jv_word F r  S = some out) (h1 : 0 + 1 ≤ lv) (hP : jf_P D E A S fo pl H) (hS : va_S A s.heap H locs) (hls : ls.size = nL) (_ : (1 : Nat) = 1) (hst : stk = ([] : List Value).reverse ++ .ref a :: rest) (hW : 2 * (F0 m pc ls stk).monitorRoom + (rest.map fun v => v.category).sum ≤ 8) (hdg : decode cc pc = .ok (.invokevirtual 97, 3))
    (kk : ∀ (H : Heap) (locs : List Loc), jf_P D E A out.2 fo pl H → va_S A s.heap H locs → W p l e R s m args below meth c H locs 0 0 Q (F0 m (pc + 3) ls (.int out.1 :: rest))) : W p l e R s m args below meth c H locs 0 0 Q (F0 m pc ls stk) := by
  obtain ⟨hv1, hv2⟩ := hlv
  rcases hi with ⟨e0, h0⟩ | ⟨e0, h0⟩ | ⟨e0, h0⟩ | ⟨e0, h0⟩ | ⟨e0, h0⟩ | ⟨e0, h0⟩ | ⟨e0, h0⟩ | ⟨e0, h0⟩ | ⟨e0, h0⟩ | ⟨e0, h0⟩
  · rw [jv_word, if_pos e0] at e1
    obtain ⟨q0, _, _, hq, -, -⟩ := jo_f0 (E := E) (S := S) (fo := fo) h0
    exact jf_vcallI hx hb hml hown hts hV (jo9_word_met h0 e1) (va_cwA (x := ⟨"JumpFence$Order", "word", "()I"⟩) (owner := "JumpFence$Order") 0 hts (jf_lwU q748 q567 q589 q590 q117 q591) rfl rfl rfl (hV.2.2.1.2.2.2 ⟨"JumpFence$Order", "word", "()I"⟩ (by decide)) (by decide +kernel) ⟨by show 0 + 1 ≤ R.frames; omega, by show 8 + (1 + 11) + 40 * 0 ≤ R.locals; omega⟩) hP hS (ci := 6) hq rfl hls rfl hst hW hdg kk
  · rw [jv_word, if_neg (by rw [e0]; decide), if_pos e0] at e1
    obtain ⟨q0, hq⟩ := jf_pool (E := E) (S := S) (fo := fo) h0
    exact jf_vcallI hx hb hml hown hts hV (jo10_word_met h0 e1) (va_cwA (x := ⟨"JumpFence$Order", "word", "()I"⟩) (owner := "JumpFence$Order") 0 hts (jf_lwU q748 q567 q586 q587 q118 q588) rfl rfl rfl (hV.2.2.1.2.2.2 ⟨"JumpFence$Order", "word", "()I"⟩ (by decide)) (by decide +kernel) ⟨by show 0 + 1 ≤ R.frames; omega, by show 8 + (1 + 11) + 40 * 0 ≤ R.locals; omega⟩) hP hS (ci := 7) hq rfl hls rfl hst hW hdg kk
  · rw [jv_word, if_neg (by rw [e0]; decide), if_neg (by rw [e0]; decide), if_pos e0] at e1
    obtain ⟨q0, hq⟩ := jf_pool (E := E) (S := S) (fo := fo) h0
    exact jf_vcallI hx hb hml hown hts hV (jo11_word_met h0 e1) (va_cwA (x := ⟨"JumpFence$Order", "word", "()I"⟩) (owner := "JumpFence$Order") 0 hts (jf_lwU q748 q567 q583 q584 q119 q585) rfl rfl rfl (hV.2.2.1.2.2.2 ⟨"JumpFence$Order", "word", "()I"⟩ (by decide)) (by decide +kernel) ⟨by show 0 + 1 ≤ R.frames; omega, by show 8 + (1 + 11) + 40 * 0 ≤ R.locals; omega⟩) hP hS (ci := 8) hq rfl hls rfl hst hW hdg kk
  · rw [jv_word, if_neg (by rw [e0]; decide), if_neg (by rw [e0]; decide), if_neg (by rw [e0]; decide), if_pos e0] at e1
    obtain ⟨q0, _, _, hq, -, -⟩ := jo_f3 (E := E) (S := S) (fo := fo) h0
    exact jf_vcallI hx hb hml hown hts hV (jo12_word_met h0 e1) (va_cwA (x := ⟨"JumpFence$Order", "word", "()I"⟩) (owner := "JumpFence$Order") 0 hts (jf_lwU q748 q567 q580 q581 q120 q582) rfl rfl rfl (hV.2.2.1.2.2.2 ⟨"JumpFence$Order", "word", "()I"⟩ (by decide)) (by decide +kernel) ⟨by show 0 + 1 ≤ R.frames; omega, by show 8 + (1 + 11) + 40 * 0 ≤ R.locals; omega⟩) hP hS (ci := 9) hq rfl hls rfl hst hW hdg kk
  · rw [jv_word, if_neg (by rw [e0]; decide), if_neg (by rw [e0]; decide), if_neg (by rw [e0]; decide), if_neg (by rw [e0]; decide), if_pos e0] at e1
    obtain ⟨q0, hq⟩ := jf_pool (E := E) (S := S) (fo := fo) h0
    exact jf_vcallI hx hb hml hown hts hV (jo13_word_met (Or.inl h0) e1) (va_cwA (x := ⟨"JumpFence$Order", "word", "()I"⟩) (owner := "JumpFence$Order") 0 hts (jf_lwU q748 q567 q595 q596 q121 q597) rfl rfl rfl (hV.2.2.1.2.2.2 ⟨"JumpFence$Order", "word", "()I"⟩ (by decide)) (by decide +kernel) ⟨by show 0 + 1 ≤ R.frames; omega, by show 8 + (1 + 11) + 40 * 0 ≤ R.locals; omega⟩) hP hS (ci := 10) hq rfl hls rfl hst hW hdg kk
  · rw [jv_word, if_neg (by rw [e0]; decide), if_neg (by rw [e0]; decide), if_neg (by rw [e0]; decide), if_neg (by rw [e0]; decide), if_neg (by rw [e0]; decide), if_pos e0] at e1
    obtain ⟨q0, hq⟩ := jf_pool (E := E) (S := S) (fo := fo) h0
    exact jf_vcallI hx hb hml hown hts hV (jo14_word_met h0 e1) (va_cwA (x := ⟨"JumpFence$Order", "word", "()I"⟩) (owner := "JumpFence$Order") 0 hts (jf_lwU q748 q567 q574 q575 q122 q576) rfl rfl rfl (hV.2.2.1.2.2.2 ⟨"JumpFence$Order", "word", "()I"⟩ (by decide)) (by decide +kernel) ⟨by show 0 + 1 ≤ R.frames; omega, by show 8 + (1 + 11) + 40 * 0 ≤ R.locals; omega⟩) hP hS (ci := 11) hq rfl hls rfl hst hW hdg kk
  · rw [jv_word, if_neg (by rw [e0]; decide), if_neg (by rw [e0]; decide), if_neg (by rw [e0]; decide), if_neg (by rw [e0]; decide), if_neg (by rw [e0]; decide), if_neg (by rw [e0]; decide), if_pos e0] at e1
    obtain ⟨q0, hq⟩ := jf_pool (E := E) (S := S) (fo := fo) h0
    exact jf_vcallI hx hb hml hown hts hV (jo15_word_met h0 e1) (va_cwA (x := ⟨"JumpFence$Order", "word", "()I"⟩) (owner := "JumpFence$Order") 0 hts (jf_lwU q748 q567 q571 q572 q123 q573) rfl rfl rfl (hV.2.2.1.2.2.2 ⟨"JumpFence$Order", "word", "()I"⟩ (by decide)) (by decide +kernel) ⟨by show 0 + 1 ≤ R.frames; omega, by show 8 + (1 + 11) + 40 * 0 ≤ R.locals; omega⟩) hP hS (ci := 12) hq rfl hls rfl hst hW hdg kk
  · rw [jv_word, if_neg (by rw [e0]; decide), if_neg (by rw [e0]; decide), if_neg (by rw [e0]; decide), if_neg (by rw [e0]; decide), if_neg (by rw [e0]; decide), if_neg (by rw [e0]; decide), if_neg (by rw [e0]; decide), if_pos e0] at e1
    obtain ⟨q0, hq⟩ := jf_pool (E := E) (S := S) (fo := fo) h0
    exact jf_vcallI hx hb hml hown hts hV (jo16_word_met h0 e1) (va_cwA (x := ⟨"JumpFence$Order", "word", "()I"⟩) (owner := "JumpFence$Order") 0 hts (jf_lwU q748 q567 q568 q569 q124 q570) rfl rfl rfl (hV.2.2.1.2.2.2 ⟨"JumpFence$Order", "word", "()I"⟩ (by decide)) (by decide +kernel) ⟨by show 0 + 1 ≤ R.frames; omega, by show 8 + (1 + 11) + 40 * 0 ≤ R.locals; omega⟩) hP hS (ci := 13) hq rfl hls rfl hst hW hdg kk
  · rw [jv_word, if_neg (by rw [e0]; decide), if_neg (by rw [e0]; decide), if_neg (by rw [e0]; decide), if_neg (by rw [e0]; decide), if_neg (by rw [e0]; decide), if_neg (by rw [e0]; decide), if_neg (by rw [e0]; decide), if_neg (by rw [e0]; decide), if_pos e0] at e1
    obtain ⟨q0, _, hq, -⟩ := jo_f8 (E := E) (S := S) (fo := fo) h0
    exact jf_vcallI hx hb hml hown hts hV (jo17_word_met h0 e1) (va_cwA (x := ⟨"JumpFence$Order", "word", "()I"⟩) (owner := "JumpFence$Order") 0 hts (jf_lwU q748 q567 q577 q578 q125 q579) rfl rfl rfl (hV.2.2.1.2.2.2 ⟨"JumpFence$Order", "word", "()I"⟩ (by decide)) (by decide +kernel) ⟨by show 0 + 1 ≤ R.frames; omega, by show 8 + (1 + 11) + 40 * 0 ≤ R.locals; omega⟩) hP hS (ci := 14) hq rfl hls rfl hst hW hdg kk
  · rw [jv_word, if_neg (by rw [e0]; decide), if_neg (by rw [e0]; decide), if_neg (by rw [e0]; decide), if_neg (by rw [e0]; decide), if_neg (by rw [e0]; decide), if_neg (by rw [e0]; decide), if_neg (by rw [e0]; decide), if_neg (by rw [e0]; decide), if_neg (by rw [e0]; decide), if_pos e0] at e1
    obtain ⟨q0, hq⟩ := jf_pool (E := E) (S := S) (fo := fo) h0
    exact jf_vcallI hx hb hml hown hts hV (jo18_word_met h0 e1) (va_cwA (x := ⟨"JumpFence$Order", "word", "()I"⟩) (owner := "JumpFence$Order") 0 hts (jf_lwU q748 q567 q592 q593 q126 q594) rfl rfl rfl (hV.2.2.1.2.2.2 ⟨"JumpFence$Order", "word", "()I"⟩ (by decide)) (by decide +kernel) ⟨by show 0 + 1 ≤ R.frames; omega, by show 8 + (1 + 11) + 40 * 0 ≤ R.locals; omega⟩) hP hS (ci := 15) hq rfl hls rfl hst hW hdg kk
theorem jv_word_X5 {F nL lv a : Nat} {r : jo_R}  {out : Int32 × jf_S} {stk : List Value} (hx : p.tables.exec = Jvm.exec) (hb : c.code = cc) (hml : c.maxLocals = nL) (hown : s.vm.findClass RX5 = some m.cls) (hts : ∀ w ∈ lw_all, w.before args s = true) (hlv : jx_hr R lv) (hV : jf_V D E A s) (hi : jo_Is pl a r) (e1 : jv_word F r  S = some out) (h1 : 0 + 1 ≤ lv) (hP : jf_P D E A S fo pl H) (hS : va_S A s.heap H locs) (hls : ls.size = nL) (_ : (1 : Nat) = 1) (hst : stk = ([] : List Value).reverse ++ .ref a :: rest) (hW : 2 * (F0 m pc ls stk).monitorRoom + (rest.map fun v => v.category).sum ≤ 8) (hdg : decode cc pc = .ok (.invokevirtual 77, 3))
    (kk : ∀ (H : Heap) (locs : List Loc), jf_P D E A out.2 fo pl H → va_S A s.heap H locs → W p l e R s m args below meth c H locs 0 0 Q (F0 m (pc + 3) ls (.int out.1 :: rest))) : W p l e R s m args below meth c H locs 0 0 Q (F0 m pc ls stk) := by
  obtain ⟨hv1, hv2⟩ := hlv
  rcases hi with ⟨e0, h0⟩ | ⟨e0, h0⟩ | ⟨e0, h0⟩ | ⟨e0, h0⟩ | ⟨e0, h0⟩ | ⟨e0, h0⟩ | ⟨e0, h0⟩ | ⟨e0, h0⟩ | ⟨e0, h0⟩ | ⟨e0, h0⟩
  · rw [jv_word, if_pos e0] at e1
    obtain ⟨q0, _, _, hq, -, -⟩ := jo_f0 (E := E) (S := S) (fo := fo) h0
    exact jf_vcallI hx hb hml hown hts hV (jo9_word_met h0 e1) (va_cwA (x := ⟨"JumpFence$Order", "word", "()I"⟩) (owner := "JumpFence$Order") 0 hts (jf_lwU q565 q567 q589 q590 q117 q591) rfl rfl rfl (hV.2.2.1.2.2.2 ⟨"JumpFence$Order", "word", "()I"⟩ (by decide)) (by decide +kernel) ⟨by show 0 + 1 ≤ R.frames; omega, by show 8 + (1 + 11) + 40 * 0 ≤ R.locals; omega⟩) hP hS (ci := 6) hq rfl hls rfl hst hW hdg kk
  · rw [jv_word, if_neg (by rw [e0]; decide), if_pos e0] at e1
    obtain ⟨q0, hq⟩ := jf_pool (E := E) (S := S) (fo := fo) h0
    exact jf_vcallI hx hb hml hown hts hV (jo10_word_met h0 e1) (va_cwA (x := ⟨"JumpFence$Order", "word", "()I"⟩) (owner := "JumpFence$Order") 0 hts (jf_lwU q565 q567 q586 q587 q118 q588) rfl rfl rfl (hV.2.2.1.2.2.2 ⟨"JumpFence$Order", "word", "()I"⟩ (by decide)) (by decide +kernel) ⟨by show 0 + 1 ≤ R.frames; omega, by show 8 + (1 + 11) + 40 * 0 ≤ R.locals; omega⟩) hP hS (ci := 7) hq rfl hls rfl hst hW hdg kk
  · rw [jv_word, if_neg (by rw [e0]; decide), if_neg (by rw [e0]; decide), if_pos e0] at e1
    obtain ⟨q0, hq⟩ := jf_pool (E := E) (S := S) (fo := fo) h0
    exact jf_vcallI hx hb hml hown hts hV (jo11_word_met h0 e1) (va_cwA (x := ⟨"JumpFence$Order", "word", "()I"⟩) (owner := "JumpFence$Order") 0 hts (jf_lwU q565 q567 q583 q584 q119 q585) rfl rfl rfl (hV.2.2.1.2.2.2 ⟨"JumpFence$Order", "word", "()I"⟩ (by decide)) (by decide +kernel) ⟨by show 0 + 1 ≤ R.frames; omega, by show 8 + (1 + 11) + 40 * 0 ≤ R.locals; omega⟩) hP hS (ci := 8) hq rfl hls rfl hst hW hdg kk
  · rw [jv_word, if_neg (by rw [e0]; decide), if_neg (by rw [e0]; decide), if_neg (by rw [e0]; decide), if_pos e0] at e1
    obtain ⟨q0, _, _, hq, -, -⟩ := jo_f3 (E := E) (S := S) (fo := fo) h0
    exact jf_vcallI hx hb hml hown hts hV (jo12_word_met h0 e1) (va_cwA (x := ⟨"JumpFence$Order", "word", "()I"⟩) (owner := "JumpFence$Order") 0 hts (jf_lwU q565 q567 q580 q581 q120 q582) rfl rfl rfl (hV.2.2.1.2.2.2 ⟨"JumpFence$Order", "word", "()I"⟩ (by decide)) (by decide +kernel) ⟨by show 0 + 1 ≤ R.frames; omega, by show 8 + (1 + 11) + 40 * 0 ≤ R.locals; omega⟩) hP hS (ci := 9) hq rfl hls rfl hst hW hdg kk
  · rw [jv_word, if_neg (by rw [e0]; decide), if_neg (by rw [e0]; decide), if_neg (by rw [e0]; decide), if_neg (by rw [e0]; decide), if_pos e0] at e1
    obtain ⟨q0, hq⟩ := jf_pool (E := E) (S := S) (fo := fo) h0
    exact jf_vcallI hx hb hml hown hts hV (jo13_word_met (Or.inl h0) e1) (va_cwA (x := ⟨"JumpFence$Order", "word", "()I"⟩) (owner := "JumpFence$Order") 0 hts (jf_lwU q565 q567 q595 q596 q121 q597) rfl rfl rfl (hV.2.2.1.2.2.2 ⟨"JumpFence$Order", "word", "()I"⟩ (by decide)) (by decide +kernel) ⟨by show 0 + 1 ≤ R.frames; omega, by show 8 + (1 + 11) + 40 * 0 ≤ R.locals; omega⟩) hP hS (ci := 10) hq rfl hls rfl hst hW hdg kk
  · rw [jv_word, if_neg (by rw [e0]; decide), if_neg (by rw [e0]; decide), if_neg (by rw [e0]; decide), if_neg (by rw [e0]; decide), if_neg (by rw [e0]; decide), if_pos e0] at e1
    obtain ⟨q0, hq⟩ := jf_pool (E := E) (S := S) (fo := fo) h0
    exact jf_vcallI hx hb hml hown hts hV (jo14_word_met h0 e1) (va_cwA (x := ⟨"JumpFence$Order", "word", "()I"⟩) (owner := "JumpFence$Order") 0 hts (jf_lwU q565 q567 q574 q575 q122 q576) rfl rfl rfl (hV.2.2.1.2.2.2 ⟨"JumpFence$Order", "word", "()I"⟩ (by decide)) (by decide +kernel) ⟨by show 0 + 1 ≤ R.frames; omega, by show 8 + (1 + 11) + 40 * 0 ≤ R.locals; omega⟩) hP hS (ci := 11) hq rfl hls rfl hst hW hdg kk
  · rw [jv_word, if_neg (by rw [e0]; decide), if_neg (by rw [e0]; decide), if_neg (by rw [e0]; decide), if_neg (by rw [e0]; decide), if_neg (by rw [e0]; decide), if_neg (by rw [e0]; decide), if_pos e0] at e1
    obtain ⟨q0, hq⟩ := jf_pool (E := E) (S := S) (fo := fo) h0
    exact jf_vcallI hx hb hml hown hts hV (jo15_word_met h0 e1) (va_cwA (x := ⟨"JumpFence$Order", "word", "()I"⟩) (owner := "JumpFence$Order") 0 hts (jf_lwU q565 q567 q571 q572 q123 q573) rfl rfl rfl (hV.2.2.1.2.2.2 ⟨"JumpFence$Order", "word", "()I"⟩ (by decide)) (by decide +kernel) ⟨by show 0 + 1 ≤ R.frames; omega, by show 8 + (1 + 11) + 40 * 0 ≤ R.locals; omega⟩) hP hS (ci := 12) hq rfl hls rfl hst hW hdg kk
  · rw [jv_word, if_neg (by rw [e0]; decide), if_neg (by rw [e0]; decide), if_neg (by rw [e0]; decide), if_neg (by rw [e0]; decide), if_neg (by rw [e0]; decide), if_neg (by rw [e0]; decide), if_neg (by rw [e0]; decide), if_pos e0] at e1
    obtain ⟨q0, hq⟩ := jf_pool (E := E) (S := S) (fo := fo) h0
    exact jf_vcallI hx hb hml hown hts hV (jo16_word_met h0 e1) (va_cwA (x := ⟨"JumpFence$Order", "word", "()I"⟩) (owner := "JumpFence$Order") 0 hts (jf_lwU q565 q567 q568 q569 q124 q570) rfl rfl rfl (hV.2.2.1.2.2.2 ⟨"JumpFence$Order", "word", "()I"⟩ (by decide)) (by decide +kernel) ⟨by show 0 + 1 ≤ R.frames; omega, by show 8 + (1 + 11) + 40 * 0 ≤ R.locals; omega⟩) hP hS (ci := 13) hq rfl hls rfl hst hW hdg kk
  · rw [jv_word, if_neg (by rw [e0]; decide), if_neg (by rw [e0]; decide), if_neg (by rw [e0]; decide), if_neg (by rw [e0]; decide), if_neg (by rw [e0]; decide), if_neg (by rw [e0]; decide), if_neg (by rw [e0]; decide), if_neg (by rw [e0]; decide), if_pos e0] at e1
    obtain ⟨q0, _, hq, -⟩ := jo_f8 (E := E) (S := S) (fo := fo) h0
    exact jf_vcallI hx hb hml hown hts hV (jo17_word_met h0 e1) (va_cwA (x := ⟨"JumpFence$Order", "word", "()I"⟩) (owner := "JumpFence$Order") 0 hts (jf_lwU q565 q567 q577 q578 q125 q579) rfl rfl rfl (hV.2.2.1.2.2.2 ⟨"JumpFence$Order", "word", "()I"⟩ (by decide)) (by decide +kernel) ⟨by show 0 + 1 ≤ R.frames; omega, by show 8 + (1 + 11) + 40 * 0 ≤ R.locals; omega⟩) hP hS (ci := 14) hq rfl hls rfl hst hW hdg kk
  · rw [jv_word, if_neg (by rw [e0]; decide), if_neg (by rw [e0]; decide), if_neg (by rw [e0]; decide), if_neg (by rw [e0]; decide), if_neg (by rw [e0]; decide), if_neg (by rw [e0]; decide), if_neg (by rw [e0]; decide), if_neg (by rw [e0]; decide), if_neg (by rw [e0]; decide), if_pos e0] at e1
    obtain ⟨q0, hq⟩ := jf_pool (E := E) (S := S) (fo := fo) h0
    exact jf_vcallI hx hb hml hown hts hV (jo18_word_met h0 e1) (va_cwA (x := ⟨"JumpFence$Order", "word", "()I"⟩) (owner := "JumpFence$Order") 0 hts (jf_lwU q565 q567 q592 q593 q126 q594) rfl rfl rfl (hV.2.2.1.2.2.2 ⟨"JumpFence$Order", "word", "()I"⟩ (by decide)) (by decide +kernel) ⟨by show 0 + 1 ≤ R.frames; omega, by show 8 + (1 + 11) + 40 * 0 ≤ R.locals; omega⟩) hP hS (ci := 15) hq rfl hls rfl hst hW hdg kk
theorem jp_all_g_X4 : GoodIn lw_all (wsV RX4 93 RX4 yX4_all (ws_ yX4_all cX4_all 1 (some .long))) := lw_V q602 q603 q604 q108 q605
theorem jp_all_d : yX4_all.cls = RX4 ∧ yX4_all.cls ≠ "java/lang/invoke/MethodHandle" ∧ yX4_all.cls ≠ "java/lang/invoke/VarHandle" ∧ (parseMethodDescriptor yX4_all.desc).map (fun d => d.parameters.length) = some 0 := by decide +kernel
theorem jp_all_ok {out : Int64 × jf_S} (hX : jf_Ok RX4 p R s m args meth c A D E cX4_all 1 (some .long) 0) (F : Nat) (o : Nat) (ho : o = 3 ∨ o = 4)  (S : jf_S) (h : jp_all F o  S = some out) : jf_J p l e R s m args below meth c A D E fo pl 1 (jf_Ql below args s A D E fo pl out) 0 [(0, .ref (E.1 o))] [] S := by
  intro H locs ls hP hS hl
  have hX0 := hX
  obtain ⟨hx, hb, hml, hown, hts, hlk, hr, hlv, hV, het⟩ := hX0
  unfold jp_all at h
  refine lv_lconst hx hb dX4_all_0 jx_kl1 ?_
  refine lv_aload_n hx hb dX4_all_1 rfl (lv_at hl 0 rfl) ?_
  refine jf_get hx hb hts in_X4 hown hV hP (ci := 3) (k := 13) (jf_oP ho) rfl (by decide) (hts _ q308) rfl rfl dX4_all_2 ?_
  refine lv_lshl hx hb dX4_all_5 rfl ?_
  refine lv_lconst hx hb dX4_all_6 jx_kl1 ?_
  refine lv_lsub hx hb dX4_all_7 ?_
  exact jf_lret hx hb hr hlk hV hP hS h dX4_all_8
theorem jp_all_met {l : Launch} {D : va_G} {E : jf_E} {A : Nat → Prop} {fo : Nat → Nat → Option Nat} {pl : va_W} {F : Nat} {o : Nat} (ho : o = 3 ∨ o = 4)  {S : jf_S} {out : Int64 × jf_S} (h : jp_all F o  S = some out) : jf_Ml l D E A fo pl yX4_all cX4_all 1 (some .long) 0 [.ref (E.1 o)] S out :=
  jf_Ml_of (own := RX4) ⟨by decide, rfl, Nat.le_of_ble_eq_true rfl⟩ (fun hX => jp_all_ok hX F o ho  S h)
theorem jp_lets_g_X1 : GoodIn lw_all (wsV RX1 161 RX4 yX4_lets (ws_ yX4_lets cX4_lets 3 (some .long))) := lw_V q720 q599 q600 q108 q601
theorem jp_lets_g_X13 : GoodIn lw_all (wsV RX13 24 RX4 yX4_lets (ws_ yX4_lets cX4_lets 3 (some .long))) := lw_V q896 q599 q600 q108 q601
theorem jp_lets_g_X16 : GoodIn lw_all (wsV RX16 9 RX4 yX4_lets (ws_ yX4_lets cX4_lets 3 (some .long))) := lw_V q892 q599 q600 q108 q601
theorem jp_lets_g_X5 : GoodIn lw_all (wsV RX5 86 RX4 yX4_lets (ws_ yX4_lets cX4_lets 3 (some .long))) := lw_V q598 q599 q600 q108 q601
theorem jp_lets_d : yX4_lets.cls = RX4 ∧ yX4_lets.cls ≠ "java/lang/invoke/MethodHandle" ∧ yX4_lets.cls ≠ "java/lang/invoke/VarHandle" ∧ (parseMethodDescriptor yX4_lets.desc).map (fun d => d.parameters.length) = some 2 := by decide +kernel
theorem jp_lets_ok {out : Int64 × jf_S} (hX : jf_Ok RX4 p R s m args meth c A D E cX4_lets 3 (some .long) 1) (F : Nat) (o : Nat) (ho : o = 3 ∨ o = 4) (x1 : Int32) (x2 : Int32) (S : jf_S) (h : jp_lets F o x1 x2 S = some out) : jf_J p l e R s m args below meth c A D E fo pl 3 (jf_Ql below args s A D E fo pl out) 0 [(0, .ref (E.1 o)), (1, .int x1), (2, .int x2)] [] S := by
  intro H locs ls hP hS hl
  have hX0 := hX
  obtain ⟨hx, hb, hml, hown, hts, hlk, hr, hlv, hV, het⟩ := hX0
  unfold jp_lets at h
  refine lv_iload_n hx hb dX4_lets_0 rfl (lv_at hl 2 rfl) ?_
  refine lv_if_ne (tgt := 11) hx hb dX4_lets_1 rfl (fun c1 => ?_) (fun c1 => ?_)
  · rw [if_neg c1] at h
    refine lv_iload_n hx hb dX4_lets_11 rfl (lv_at hl 2 rfl) ?_
    refine lv_iconst hx hb dX4_lets_12 jx_ki1 ?_
    refine lv_icmp_ne (tgt := 25) hx hb dX4_lets_13 rfl (fun c2 => ?_) (fun c2 => ?_)
    · rw [if_neg c2] at h
      refine lv_aload_n hx hb dX4_lets_25 rfl (lv_at hl 0 rfl) ?_
      refine jf_get hx hb hts in_X4 hown hV hP (ci := 3) (k := 11) (jf_oP ho) rfl (by decide) (hts _ q304) rfl rfl dX4_lets_26 ?_
      refine lv_iload_n hx hb dX4_lets_29 rfl (lv_at hl 1 rfl) ?_
      obtain ⟨j3, ej3, bj3, h⟩ := jx_ga_some h
      refine jf_lald hx hb hV hP (jf_aP11 ho) ej3 bj3 dX4_lets_30 ?_
      exact jf_lret hx hb hr hlk hV hP hS h dX4_lets_31
    · rw [if_pos c2] at h
      refine lv_aload_n hx hb dX4_lets_16 rfl (lv_at hl 0 rfl) ?_
      refine jf_get hx hb hts in_X4 hown hV hP (ci := 3) (k := 10) (jf_oP ho) rfl (by decide) (hts _ q302) rfl rfl dX4_lets_17 ?_
      refine lv_iload_n hx hb dX4_lets_20 rfl (lv_at hl 1 rfl) ?_
      obtain ⟨j4, ej4, bj4, h⟩ := jx_ga_some h
      refine jf_lald hx hb hV hP (jf_aP10 ho) ej4 bj4 dX4_lets_21 ?_
      refine lv_goto (tgt := 31) hx hb dX4_lets_22 rfl ?_
      exact jf_lret hx hb hr hlk hV hP hS h dX4_lets_31
  · rw [if_pos c1] at h
    refine lv_aload_n hx hb dX4_lets_4 rfl (lv_at hl 0 rfl) ?_
    obtain ⟨q5, eq5, h⟩ := jx_bi_some h
    refine jf_callL hx hb hml hown hts hlv hV (jp_all_met ho eq5) jp_all_g_X4 jp_all_d (As := []) (Nat.le_of_ble_eq_true rfl) (Nat.le_of_ble_eq_true rfl) hP hS (ci := 3) (jf_oP ho) rfl hl.1 rfl rfl (lv_room (Nat.le_of_ble_eq_true rfl)) dX4_lets_5 (fun H locs hP hS => ?_)
    refine lv_goto (tgt := 31) hx hb dX4_lets_8 rfl ?_
    exact jf_lret hx hb hr hlk hV hP hS h dX4_lets_31
theorem jp_lets_met {l : Launch} {D : va_G} {E : jf_E} {A : Nat → Prop} {fo : Nat → Nat → Option Nat} {pl : va_W} {F : Nat} {o : Nat} (ho : o = 3 ∨ o = 4) {x1 : Int32} {x2 : Int32} {S : jf_S} {out : Int64 × jf_S} (h : jp_lets F o x1 x2 S = some out) : jf_Ml l D E A fo pl yX4_lets cX4_lets 3 (some .long) 1 [.ref (E.1 o), .int x1, .int x2] S out :=
  jf_Ml_of (own := RX4) ⟨by decide, rfl, Nat.le_of_ble_eq_true rfl⟩ (fun hX => jp_lets_ok hX F o ho x1 x2 S h)
theorem jk_isLet_g_X5 : GoodIn lw_all (wsV RX5 90 RX5 yX5_isLet (ws_ yX5_isLet cX5_isLet 5 (some .boolean))) := lw_V q561 q563 qs3 q109 q564
theorem jk_isLet_d : yX5_isLet.cls = RX5 ∧ yX5_isLet.cls ≠ "java/lang/invoke/MethodHandle" ∧ yX5_isLet.cls ≠ "java/lang/invoke/VarHandle" ∧ (parseMethodDescriptor yX5_isLet.desc).map (fun d => d.parameters.length) = some 2 := by decide +kernel
theorem jk_isLet_b73_ok {out : Int32 × jf_S} (hX : jf_Ok RX5 p R s m args meth c A D E cX5_isLet 5 (some .boolean) 2) (F : Nat) (x1 : Int32) (x2 : Int32) (x3 : Int32) (S : jf_S) (h : jk_isLet_b73 F x1 x2 x3 S = some out) : jf_J p l e R s m args below meth c A D E fo pl 5 (jf_Qi below args s A D E fo pl out) 73 [(0, .ref (E.1 5)), (1, .int x1), (2, .int x2), (3, .int x3)] [] S := by
  intro H locs ls hP hS hl
  have hX0 := hX
  obtain ⟨hx, hb, hml, hown, hts, hlk, hr, hlv, hV, het⟩ := hX0
  unfold jk_isLet_b73 at h
  refine lv_iload_n hx hb dX5_isLet_73 rfl (lv_at hl 2 rfl) ?_
  refine lv_if_lt (tgt := 110) hx hb dX5_isLet_74 rfl (fun c1 => ?_) (fun c1 => ?_)
  · rw [if_pos c1] at h
    refine lv_iconst hx hb dX5_isLet_110 jx_ki0 ?_
    exact jf_zret hx hb hr hlk hV hP hS jx_nz0 h dX5_isLet_111
  · rw [if_neg c1] at h
    refine lv_iload_n hx hb dX5_isLet_77 rfl (lv_at hl 2 rfl) ?_
    refine lv_aload_n hx hb dX5_isLet_78 rfl (lv_at hl 0 rfl) ?_
    refine jf_get hx hb hts in_X5 hown hV hP (ci := 4) (k := 0) jf_o5 rfl (by decide) (hts _ q371) rfl rfl dX5_isLet_79 ?_
    refine jf_getN hx hb hts in_X4 hown hV hP (ci := 3) (k := 13) (jf_oP (Or.inl rfl)) rfl (by decide) (jf_l_X5_83 hV.2.2.1) rfl rfl dX5_isLet_82 ?_
    refine lv_icmp_ge (tgt := 110) hx hb dX5_isLet_85 rfl (fun c2 => ?_) (fun c2 => ?_)
    · rw [if_pos c2] at h
      refine lv_iconst hx hb dX5_isLet_110 jx_ki0 ?_
      exact jf_zret hx hb hr hlk hV hP hS jx_nz0 h dX5_isLet_111
    · rw [if_neg c2] at h
      refine lv_aload_n hx hb dX5_isLet_88 rfl (lv_at hl 0 rfl) ?_
      refine jf_get hx hb hts in_X5 hown hV hP (ci := 4) (k := 0) jf_o5 rfl (by decide) (hts _ q371) rfl rfl dX5_isLet_89 ?_
      refine lv_iload_n hx hb dX5_isLet_92 rfl (lv_at hl 1 rfl) ?_
      refine lv_iload_n hx hb dX5_isLet_93 rfl (lv_at hl 3 rfl) ?_
      obtain ⟨q3, eq3, h⟩ := jx_bi_some h
      refine jf_callL hx hb hml hown hts hlv hV (jp_lets_met (Or.inl rfl) eq3) jp_lets_g_X5 jp_lets_d (As := [.int x1, .int x3]) (Nat.le_of_ble_eq_true rfl) (Nat.le_of_ble_eq_true rfl) hP hS (ci := 3) (jf_oP (Or.inl rfl)) rfl hl.1 rfl rfl (lv_room (Nat.le_of_ble_eq_true rfl)) dX5_isLet_94 (fun H locs hP hS => ?_)
      refine lv_iload_n hx hb dX5_isLet_97 rfl (lv_at hl 2 rfl) ?_
      refine lv_lshr hx hb dX5_isLet_98 rfl ?_
      refine lv_lconst hx hb dX5_isLet_99 jx_kl1 ?_
      refine lv_land hx hb dX5_isLet_100 ?_
      refine lv_lconst hx hb dX5_isLet_101 jx_kl1 ?_
      refine W.lcmp hx hb dX5_isLet_102 ?_
      refine lv_if_ne (tgt := 110) hx hb dX5_isLet_103 rfl (fun c4 => ?_) (fun c4 => ?_)
      · rw [if_neg c4] at h
        refine lv_iconst hx hb dX5_isLet_110 jx_ki0 ?_
        exact jf_zret hx hb hr hlk hV hP hS jx_nz0 h dX5_isLet_111
      · rw [if_pos c4] at h
        refine lv_iconst hx hb dX5_isLet_106 jx_ki1 ?_
        refine lv_goto (tgt := 111) hx hb dX5_isLet_107 rfl ?_
        exact jf_zret hx hb hr hlk hV hP hS jx_nz1 h dX5_isLet_111
theorem jk_isLet_b38_ok {out : Int32 × jf_S} (hX : jf_Ok RX5 p R s m args meth c A D E cX5_isLet 5 (some .boolean) 2) (F : Nat) (x1 : Int32) (x2 : Int32) (x3 : Int32) (k0 : Int32) (S : jf_S) (h : jk_isLet_b38 F x1 x2 x3 k0 S = some out) : jf_J p l e R s m args below meth c A D E fo pl 5 (jf_Qi below args s A D E fo pl out) 38 [(0, .ref (E.1 5)), (1, .int x1), (2, .int x2), (3, .int x3)] [.int k0] S := by
  intro H locs ls hP hS hl
  have hX0 := hX
  obtain ⟨hx, hb, hml, hown, hts, hlk, hr, hlv, hV, het⟩ := hX0
  unfold jk_isLet_b38 at h
  refine lv_istore (lv' := [(4, .int k0), (0, .ref (E.1 5)), (1, .int x1), (2, .int x2), (3, .int x3)]) hx hb dX5_isLet_38 hl (Nat.le_of_ble_eq_true rfl) rfl (fun ls hl => ?_)
  refine lv_iload hx hb dX5_isLet_40 (lv_at hl 0 rfl) ?_
  refine lv_if_eq (tgt := 73) hx hb dX5_isLet_42 rfl (fun c1 => ?_) (fun c1 => ?_)
  · rw [if_pos c1] at h
    exact jk_isLet_b73_ok hX F _ _ _ _ h _ _ _ hP hS (lv_sub hl [1, 2, 3, 4] rfl)
  · rw [if_neg c1] at h
    refine lv_iload_n hx hb dX5_isLet_45 rfl (lv_at hl 4 rfl) ?_
    refine lv_iconst hx hb dX5_isLet_46 jx_ki3 ?_
    refine lv_icmp_ne (tgt := 73) hx hb dX5_isLet_47 rfl (fun c2 => ?_) (fun c2 => ?_)
    · rw [if_neg c2] at h
      exact jk_isLet_b73_ok hX F _ _ _ _ h _ _ _ hP hS (lv_sub hl [1, 2, 3, 4] rfl)
    · rw [if_pos c2] at h
      refine lv_iload_n hx hb dX5_isLet_50 rfl (lv_at hl 3 rfl) ?_
      refine lv_aload_n hx hb dX5_isLet_51 rfl (lv_at hl 1 rfl) ?_
      refine jf_get hx hb hts in_X5 hown hV hP (ci := 4) (k := 4) jf_o5 rfl (by decide) (hts _ q380) rfl rfl dX5_isLet_52 ?_
      refine lv_aload_n hx hb dX5_isLet_55 rfl (lv_at hl 1 rfl) ?_
      refine jf_get hx hb hts in_X5 hown hV hP (ci := 4) (k := 8) jf_o5 rfl (by decide) (hts _ q387) rfl rfl dX5_isLet_56 ?_
      refine lv_iconst hx hb dX5_isLet_59 jx_ki1 ?_
      refine lv_isub hx hb dX5_isLet_60 ?_
      obtain ⟨j3, ej3, bj3, h⟩ := jx_ga_some h
      refine jf_iald hx hb hV hP jf_a5_4 ej3 bj3 dX5_isLet_61 ?_
      refine lv_icmp_ne (tgt := 69) hx hb dX5_isLet_62 rfl (fun c4 => ?_) (fun c4 => ?_)
      · rw [if_neg c4] at h
        refine lv_iconst hx hb dX5_isLet_69 jx_ki0 ?_
        refine lv_goto (tgt := 111) hx hb dX5_isLet_70 rfl ?_
        exact jf_zret hx hb hr hlk hV hP hS jx_nz0 h dX5_isLet_111
      · rw [if_pos c4] at h
        refine lv_iconst hx hb dX5_isLet_65 jx_ki1 ?_
        refine lv_goto (tgt := 111) hx hb dX5_isLet_66 rfl ?_
        exact jf_zret hx hb hr hlk hV hP hS jx_nz1 h dX5_isLet_111
theorem jk_isLet_ok {out : Int32 × jf_S} (hX : jf_Ok RX5 p R s m args meth c A D E cX5_isLet 5 (some .boolean) 2) (F : Nat) (x1 : Int32) (x2 : Int32) (S : jf_S) (h : jk_isLet F x1 x2 S = some out) : jf_J p l e R s m args below meth c A D E fo pl 5 (jf_Qi below args s A D E fo pl out) 0 [(0, .ref (E.1 5)), (1, .int x1), (2, .int x2)] [] S := by
  intro H locs ls hP hS hl
  have hX0 := hX
  obtain ⟨hx, hb, hml, hown, hts, hlk, hr, hlv, hV, het⟩ := hX0
  unfold jk_isLet at h
  refine lv_aload_n hx hb dX5_isLet_0 rfl (lv_at hl 0 rfl) ?_
  refine jf_get hx hb hts in_X5 hown hV hP (ci := 4) (k := 0) jf_o5 rfl (by decide) (hts _ q371) rfl rfl dX5_isLet_1 ?_
  refine jf_getN hx hb hts in_X4 hown hV hP (ci := 3) (k := 1) (jf_oP (Or.inl rfl)) rfl (by decide) (jf_l_X5_68 hV.2.2.1) rfl rfl dX5_isLet_4 ?_
  refine lv_iload_n hx hb dX5_isLet_7 rfl (lv_at hl 1 rfl) ?_
  obtain ⟨j1, ej1, bj1, h⟩ := jx_ga_some h
  refine jf_iald hx hb hV hP (jf_aP1 (Or.inl rfl)) ej1 bj1 dX5_isLet_8 ?_
  obtain ⟨y2, ey2, h⟩ := jx_nx_some h
  refine jx_topi ey2 ?_
  refine lv_istore_n (lv' := [(3, .int y2), (0, .ref (E.1 5)), (1, .int x1), (2, .int x2)]) hx hb dX5_isLet_9 rfl hl (Nat.le_of_ble_eq_true rfl) rfl (fun ls hl => ?_)
  refine lv_iload_n hx hb dX5_isLet_10 rfl (lv_at hl 0 rfl) ?_
  refine lv_if_ne (tgt := 16) hx hb dX5_isLet_11 rfl (fun c3 => ?_) (fun c3 => ?_)
  · rw [if_neg c3] at h
    refine lv_aload_n hx hb dX5_isLet_16 rfl (lv_at hl 1 rfl) ?_
    refine jf_get hx hb hts in_X5 hown hV hP (ci := 4) (k := 0) jf_o5 rfl (by decide) (hts _ q371) rfl rfl dX5_isLet_17 ?_
    refine jf_getN hx hb hts in_X4 hown hV hP (ci := 3) (k := 0) (jf_oP (Or.inl rfl)) rfl (by decide) (jf_l_X5_73 hV.2.2.1) rfl rfl dX5_isLet_20 ?_
    refine lv_iload_n hx hb dX5_isLet_23 rfl (lv_at hl 2 rfl) ?_
    obtain ⟨j4, ej4, bj4, h⟩ := jx_ga_some h
    obtain ⟨r5, er5, h⟩ := jx_bi_some h
    refine jf_qald hx hb hV hP (jf_aP0 (Or.inl rfl)) ej4 bj4 er5 dX5_isLet_24 (fun r5a r5h => ?_)
    obtain ⟨q6, eq6, h⟩ := jx_bi_some h
    refine jv_word_X5 hx hb hml hown hts hlv hV r5h eq6 (Nat.le_of_ble_eq_true rfl) hP hS hl.1 rfl rfl (lv_room (Nat.le_of_ble_eq_true rfl)) dX5_isLet_25 (fun H locs hP hS => ?_)
    refine lv_bipush hx hb dX5_isLet_28 jx_kb7 ?_
    refine lv_icmp_ne (tgt := 37) hx hb dX5_isLet_30 rfl (fun c7 => ?_) (fun c7 => ?_)
    · rw [if_neg c7] at h
      refine lv_iconst hx hb dX5_isLet_37 jx_ki0 ?_
      exact jk_isLet_b38_ok hX F _ _ _ _ _ h _ _ _ hP hS (lv_sub hl [1, 2, 3, 0] rfl)
    · rw [if_pos c7] at h
      refine lv_iconst hx hb dX5_isLet_33 jx_ki1 ?_
      refine lv_goto (tgt := 38) hx hb dX5_isLet_34 rfl ?_
      exact jk_isLet_b38_ok hX F _ _ _ _ _ h _ _ _ hP hS (lv_sub hl [1, 2, 3, 0] rfl)
  · rw [if_pos c3] at h
    refine lv_iconst hx hb dX5_isLet_14 jx_ki1 ?_
    exact jf_zret hx hb hr hlk hV hP hS jx_nz1 h dX5_isLet_15
theorem jk_isLet_met {l : Launch} {D : va_G} {E : jf_E} {A : Nat → Prop} {fo : Nat → Nat → Option Nat} {pl : va_W} {F : Nat} {x1 : Int32} {x2 : Int32} {S : jf_S} {out : Int32 × jf_S} (h : jk_isLet F x1 x2 S = some out) : jf_Mi l D E A fo pl yX5_isLet cX5_isLet 5 (some .boolean) 2 [.ref (E.1 5), .int x1, .int x2] S out :=
  jf_Mi_of (own := RX5) ⟨by decide, rfl, Nat.le_of_ble_eq_true rfl⟩ (fun hX => jk_isLet_ok hX F x1 x2 S h)
theorem jo8_cell_d : yX8_cell.cls = RX8 ∧ yX8_cell.cls ≠ "java/lang/invoke/MethodHandle" ∧ yX8_cell.cls ≠ "java/lang/invoke/VarHandle" ∧ (parseMethodDescriptor yX8_cell.desc).map (fun d => d.parameters.length) = some 0 := by decide +kernel
theorem jo8_cell_ok {out : Int32 × jf_S} (hX : jf_Ok RX8 p R s m args meth c A D E cX8_cell 1 (some .int) 0) (F : Nat) (x0 : jo_R) {x0a : Nat} (S : jf_S) (h : jo8_cell F x0 S = some out) : jf_J p l e R s m args below meth c A D E fo pl 1 (jf_Qi below args s A D E fo pl out) 0 [(0, .ref x0a)] [] S := by
  intro H locs ls hP hS hl
  have hX0 := hX
  obtain ⟨hx, hb, hml, hown, hts, hlk, hr, hlv, hV, het⟩ := hX0
  unfold jo8_cell at h
  refine lv_iconst hx hb dX8_cell_0 jx_kim1 ?_
  exact jf_iret hx hb hr hlk hV hP hS h dX8_cell_1
theorem jo8_cell_met {l : Launch} {D : va_G} {E : jf_E} {A : Nat → Prop} {fo : Nat → Nat → Option Nat} {pl : va_W} {F : Nat} {x0 : jo_R} {x0a : Nat} {S : jf_S} {out : Int32 × jf_S} (h : jo8_cell F x0 S = some out) : jf_Mi l D E A fo pl yX8_cell cX8_cell 1 (some .int) 0 [.ref x0a] S out :=
  jf_Mi_of (own := RX8) ⟨by decide, rfl, Nat.le_of_ble_eq_true rfl⟩ (fun hX => jo8_cell_ok hX F x0 S h)
theorem jo13_cell_d : yX13_cell.cls = RX13 ∧ yX13_cell.cls ≠ "java/lang/invoke/MethodHandle" ∧ yX13_cell.cls ≠ "java/lang/invoke/VarHandle" ∧ (parseMethodDescriptor yX13_cell.desc).map (fun d => d.parameters.length) = some 0 := by decide +kernel
theorem jo13_cell_ok {out : Int32 × jf_S} (hX : jf_Ok RX13 p R s m args meth c A D E cX13_cell 1 (some .int) 0) (F : Nat) (x0 : jo_R) {x0a : Nat} (x0h : jo_mT pl x0a x0) (S : jf_S) (h : jo13_cell F x0 S = some out) : jf_J p l e R s m args below meth c A D E fo pl 1 (jf_Qi below args s A D E fo pl out) 0 [(0, .ref x0a)] [] S := by
  intro H locs ls hP hS hl
  have hX0 := hX
  obtain ⟨hx, hb, hml, hown, hts, hlk, hr, hlv, hV, het⟩ := hX0
  unfold jo13_cell at h
  refine lv_aload_n hx hb dX13_cell_0 rfl (lv_at hl 0 rfl) ?_
  refine jf_getT (k := 1) hx hb hts hown hV hP x0h (by decide) (hts _ q1156) rfl rfl dX13_cell_1 ?_
  exact jf_iret hx hb hr hlk hV hP hS h dX13_cell_4
theorem jo13_cell_met {l : Launch} {D : va_G} {E : jf_E} {A : Nat → Prop} {fo : Nat → Nat → Option Nat} {pl : va_W} {F : Nat} {x0 : jo_R} {x0a : Nat} (x0h : jo_mT pl x0a x0) {S : jf_S} {out : Int32 × jf_S} (h : jo13_cell F x0 S = some out) : jf_Mi l D E A fo pl yX13_cell cX13_cell 1 (some .int) 0 [.ref x0a] S out :=
  jf_Mi_of (own := RX13) ⟨by decide, rfl, Nat.le_of_ble_eq_true rfl⟩ (fun hX => jo13_cell_ok hX F x0 x0h S h)
theorem jv_cell_X1 {F nL lv a : Nat} {r : jo_R}  {out : Int32 × jf_S} {stk : List Value} (hx : p.tables.exec = Jvm.exec) (hb : c.code = cc) (hml : c.maxLocals = nL) (hown : s.vm.findClass RX1 = some m.cls) (hts : ∀ w ∈ lw_all, w.before args s = true) (hlv : jx_hr R lv) (hV : jf_V D E A s) (hi : jo_Is pl a r) (e1 : jv_cell F r  S = some out) (h1 : 0 + 1 ≤ lv) (hP : jf_P D E A S fo pl H) (hS : va_S A s.heap H locs) (hls : ls.size = nL) (_ : (1 : Nat) = 1) (hst : stk = ([] : List Value).reverse ++ .ref a :: rest) (hW : 2 * (F0 m pc ls stk).monitorRoom + (rest.map fun v => v.category).sum ≤ 8) (hdg : decode cc pc = .ok (.invokevirtual 283, 3))
    (kk : ∀ (H : Heap) (locs : List Loc), jf_P D E A out.2 fo pl H → va_S A s.heap H locs → W p l e R s m args below meth c H locs 0 0 Q (F0 m (pc + 3) ls (.int out.1 :: rest))) : W p l e R s m args below meth c H locs 0 0 Q (F0 m pc ls stk) := by
  obtain ⟨hv1, hv2⟩ := hlv
  rcases hi with ⟨e0, h0⟩ | ⟨e0, h0⟩ | ⟨e0, h0⟩ | ⟨e0, h0⟩ | ⟨e0, h0⟩ | ⟨e0, h0⟩ | ⟨e0, h0⟩ | ⟨e0, h0⟩ | ⟨e0, h0⟩ | ⟨e0, h0⟩
  · rw [jv_cell, if_pos e0] at e1
    obtain ⟨q0, _, _, hq, -, -⟩ := jo_f0 (E := E) (S := S) (fo := fo) h0
    exact jf_vcallI hx hb hml hown hts hV (jo8_cell_met (x0a := a) e1) (va_cwO (x := ⟨"JumpFence$Order", "cell", "()I"⟩) (owner := "JumpFence$Order") 0 hts (jf_lwO q936 q608 q607 q618 q607 q116 q621) rfl rfl rfl q621 (by decide +kernel) ⟨by show 0 + 1 ≤ R.frames; omega, by show 8 + (1 + 11) + 40 * 0 ≤ R.locals; omega⟩) hP hS (ci := 6) hq rfl hls rfl hst hW hdg kk
  · rw [jv_cell, if_neg (by rw [e0]; decide), if_pos e0] at e1
    obtain ⟨q0, hq⟩ := jf_pool (E := E) (S := S) (fo := fo) h0
    exact jf_vcallI hx hb hml hown hts hV (jo8_cell_met (x0a := a) e1) (va_cwO (x := ⟨"JumpFence$Order", "cell", "()I"⟩) (owner := "JumpFence$Order") 0 hts (jf_lwO q936 q608 q607 q617 q607 q116 q621) rfl rfl rfl q621 (by decide +kernel) ⟨by show 0 + 1 ≤ R.frames; omega, by show 8 + (1 + 11) + 40 * 0 ≤ R.locals; omega⟩) hP hS (ci := 7) hq rfl hls rfl hst hW hdg kk
  · rw [jv_cell, if_neg (by rw [e0]; decide), if_neg (by rw [e0]; decide), if_pos e0] at e1
    obtain ⟨q0, hq⟩ := jf_pool (E := E) (S := S) (fo := fo) h0
    exact jf_vcallI hx hb hml hown hts hV (jo8_cell_met (x0a := a) e1) (va_cwO (x := ⟨"JumpFence$Order", "cell", "()I"⟩) (owner := "JumpFence$Order") 0 hts (jf_lwO q936 q608 q607 q616 q607 q116 q621) rfl rfl rfl q621 (by decide +kernel) ⟨by show 0 + 1 ≤ R.frames; omega, by show 8 + (1 + 11) + 40 * 0 ≤ R.locals; omega⟩) hP hS (ci := 8) hq rfl hls rfl hst hW hdg kk
  · rw [jv_cell, if_neg (by rw [e0]; decide), if_neg (by rw [e0]; decide), if_neg (by rw [e0]; decide), if_pos e0] at e1
    obtain ⟨q0, _, _, hq, -, -⟩ := jo_f3 (E := E) (S := S) (fo := fo) h0
    exact jf_vcallI hx hb hml hown hts hV (jo8_cell_met (x0a := a) e1) (va_cwO (x := ⟨"JumpFence$Order", "cell", "()I"⟩) (owner := "JumpFence$Order") 0 hts (jf_lwO q936 q608 q607 q615 q607 q116 q621) rfl rfl rfl q621 (by decide +kernel) ⟨by show 0 + 1 ≤ R.frames; omega, by show 8 + (1 + 11) + 40 * 0 ≤ R.locals; omega⟩) hP hS (ci := 9) hq rfl hls rfl hst hW hdg kk
  · rw [jv_cell, if_neg (by rw [e0]; decide), if_neg (by rw [e0]; decide), if_neg (by rw [e0]; decide), if_neg (by rw [e0]; decide), if_pos e0] at e1
    obtain ⟨q0, hq⟩ := jf_pool (E := E) (S := S) (fo := fo) h0
    exact jf_vcallI hx hb hml hown hts hV (jo13_cell_met (Or.inl h0) e1) (va_cwO (x := ⟨"JumpFence$Order", "cell", "()I"⟩) (owner := "JumpFence$Order") 0 hts (jf_lwO q936 q608 q607 q620 q611 q121 q612) rfl rfl rfl q621 (by decide +kernel) ⟨by show 0 + 1 ≤ R.frames; omega, by show 8 + (1 + 11) + 40 * 0 ≤ R.locals; omega⟩) hP hS (ci := 10) hq rfl hls rfl hst hW hdg kk
  · rw [jv_cell, if_neg (by rw [e0]; decide), if_neg (by rw [e0]; decide), if_neg (by rw [e0]; decide), if_neg (by rw [e0]; decide), if_neg (by rw [e0]; decide), if_pos e0] at e1
    obtain ⟨q0, hq⟩ := jf_pool (E := E) (S := S) (fo := fo) h0
    exact jf_vcallI hx hb hml hown hts hV (jo8_cell_met (x0a := a) e1) (va_cwO (x := ⟨"JumpFence$Order", "cell", "()I"⟩) (owner := "JumpFence$Order") 0 hts (jf_lwO q936 q608 q607 q613 q607 q116 q621) rfl rfl rfl q621 (by decide +kernel) ⟨by show 0 + 1 ≤ R.frames; omega, by show 8 + (1 + 11) + 40 * 0 ≤ R.locals; omega⟩) hP hS (ci := 11) hq rfl hls rfl hst hW hdg kk
  · rw [jv_cell, if_neg (by rw [e0]; decide), if_neg (by rw [e0]; decide), if_neg (by rw [e0]; decide), if_neg (by rw [e0]; decide), if_neg (by rw [e0]; decide), if_neg (by rw [e0]; decide), if_pos e0] at e1
    obtain ⟨q0, hq⟩ := jf_pool (E := E) (S := S) (fo := fo) h0
    exact jf_vcallI hx hb hml hown hts hV (jo13_cell_met (Or.inr h0) e1) (va_cwO (x := ⟨"JumpFence$Order", "cell", "()I"⟩) (owner := "JumpFence$Order") 0 hts (jf_lwO q936 q608 q607 q610 q611 q121 q612) rfl rfl rfl q621 (by decide +kernel) ⟨by show 0 + 1 ≤ R.frames; omega, by show 8 + (1 + 11) + 40 * 0 ≤ R.locals; omega⟩) hP hS (ci := 12) hq rfl hls rfl hst hW hdg kk
  · rw [jv_cell, if_neg (by rw [e0]; decide), if_neg (by rw [e0]; decide), if_neg (by rw [e0]; decide), if_neg (by rw [e0]; decide), if_neg (by rw [e0]; decide), if_neg (by rw [e0]; decide), if_neg (by rw [e0]; decide), if_pos e0] at e1
    obtain ⟨q0, hq⟩ := jf_pool (E := E) (S := S) (fo := fo) h0
    exact jf_vcallI hx hb hml hown hts hV (jo8_cell_met (x0a := a) e1) (va_cwO (x := ⟨"JumpFence$Order", "cell", "()I"⟩) (owner := "JumpFence$Order") 0 hts (jf_lwO q936 q608 q607 q609 q607 q116 q621) rfl rfl rfl q621 (by decide +kernel) ⟨by show 0 + 1 ≤ R.frames; omega, by show 8 + (1 + 11) + 40 * 0 ≤ R.locals; omega⟩) hP hS (ci := 13) hq rfl hls rfl hst hW hdg kk
  · rw [jv_cell, if_neg (by rw [e0]; decide), if_neg (by rw [e0]; decide), if_neg (by rw [e0]; decide), if_neg (by rw [e0]; decide), if_neg (by rw [e0]; decide), if_neg (by rw [e0]; decide), if_neg (by rw [e0]; decide), if_neg (by rw [e0]; decide), if_pos e0] at e1
    obtain ⟨q0, _, hq, -⟩ := jo_f8 (E := E) (S := S) (fo := fo) h0
    exact jf_vcallI hx hb hml hown hts hV (jo8_cell_met (x0a := a) e1) (va_cwO (x := ⟨"JumpFence$Order", "cell", "()I"⟩) (owner := "JumpFence$Order") 0 hts (jf_lwO q936 q608 q607 q614 q607 q116 q621) rfl rfl rfl q621 (by decide +kernel) ⟨by show 0 + 1 ≤ R.frames; omega, by show 8 + (1 + 11) + 40 * 0 ≤ R.locals; omega⟩) hP hS (ci := 14) hq rfl hls rfl hst hW hdg kk
  · rw [jv_cell, if_neg (by rw [e0]; decide), if_neg (by rw [e0]; decide), if_neg (by rw [e0]; decide), if_neg (by rw [e0]; decide), if_neg (by rw [e0]; decide), if_neg (by rw [e0]; decide), if_neg (by rw [e0]; decide), if_neg (by rw [e0]; decide), if_neg (by rw [e0]; decide), if_pos e0] at e1
    obtain ⟨q0, hq⟩ := jf_pool (E := E) (S := S) (fo := fo) h0
    exact jf_vcallI hx hb hml hown hts hV (jo8_cell_met (x0a := a) e1) (va_cwO (x := ⟨"JumpFence$Order", "cell", "()I"⟩) (owner := "JumpFence$Order") 0 hts (jf_lwO q936 q608 q607 q619 q607 q116 q621) rfl rfl rfl q621 (by decide +kernel) ⟨by show 0 + 1 ≤ R.frames; omega, by show 8 + (1 + 11) + 40 * 0 ≤ R.locals; omega⟩) hP hS (ci := 15) hq rfl hls rfl hst hW hdg kk
theorem jv_cell_X4 {F nL lv a : Nat} {r : jo_R}  {out : Int32 × jf_S} {stk : List Value} (hx : p.tables.exec = Jvm.exec) (hb : c.code = cc) (hml : c.maxLocals = nL) (hown : s.vm.findClass RX4 = some m.cls) (hts : ∀ w ∈ lw_all, w.before args s = true) (hlv : jx_hr R lv) (hV : jf_V D E A s) (hi : jo_Is pl a r) (e1 : jv_cell F r  S = some out) (h1 : 0 + 1 ≤ lv) (hP : jf_P D E A S fo pl H) (hS : va_S A s.heap H locs) (hls : ls.size = nL) (_ : (1 : Nat) = 1) (hst : stk = ([] : List Value).reverse ++ .ref a :: rest) (hW : 2 * (F0 m pc ls stk).monitorRoom + (rest.map fun v => v.category).sum ≤ 8) (hdg : decode cc pc = .ok (.invokevirtual 107, 3))
    (kk : ∀ (H : Heap) (locs : List Loc), jf_P D E A out.2 fo pl H → va_S A s.heap H locs → W p l e R s m args below meth c H locs 0 0 Q (F0 m (pc + 3) ls (.int out.1 :: rest))) : W p l e R s m args below meth c H locs 0 0 Q (F0 m pc ls stk) := by
  obtain ⟨hv1, hv2⟩ := hlv
  rcases hi with ⟨e0, h0⟩ | ⟨e0, h0⟩ | ⟨e0, h0⟩ | ⟨e0, h0⟩ | ⟨e0, h0⟩ | ⟨e0, h0⟩ | ⟨e0, h0⟩ | ⟨e0, h0⟩ | ⟨e0, h0⟩ | ⟨e0, h0⟩
  · rw [jv_cell, if_pos e0] at e1
    obtain ⟨q0, _, _, hq, -, -⟩ := jo_f0 (E := E) (S := S) (fo := fo) h0
    exact jf_vcallI hx hb hml hown hts hV (jo8_cell_met (x0a := a) e1) (va_cwO (x := ⟨"JumpFence$Order", "cell", "()I"⟩) (owner := "JumpFence$Order") 0 hts (jf_lwO q790 q608 q607 q618 q607 q116 q621) rfl rfl rfl q621 (by decide +kernel) ⟨by show 0 + 1 ≤ R.frames; omega, by show 8 + (1 + 11) + 40 * 0 ≤ R.locals; omega⟩) hP hS (ci := 6) hq rfl hls rfl hst hW hdg kk
  · rw [jv_cell, if_neg (by rw [e0]; decide), if_pos e0] at e1
    obtain ⟨q0, hq⟩ := jf_pool (E := E) (S := S) (fo := fo) h0
    exact jf_vcallI hx hb hml hown hts hV (jo8_cell_met (x0a := a) e1) (va_cwO (x := ⟨"JumpFence$Order", "cell", "()I"⟩) (owner := "JumpFence$Order") 0 hts (jf_lwO q790 q608 q607 q617 q607 q116 q621) rfl rfl rfl q621 (by decide +kernel) ⟨by show 0 + 1 ≤ R.frames; omega, by show 8 + (1 + 11) + 40 * 0 ≤ R.locals; omega⟩) hP hS (ci := 7) hq rfl hls rfl hst hW hdg kk
  · rw [jv_cell, if_neg (by rw [e0]; decide), if_neg (by rw [e0]; decide), if_pos e0] at e1
    obtain ⟨q0, hq⟩ := jf_pool (E := E) (S := S) (fo := fo) h0
    exact jf_vcallI hx hb hml hown hts hV (jo8_cell_met (x0a := a) e1) (va_cwO (x := ⟨"JumpFence$Order", "cell", "()I"⟩) (owner := "JumpFence$Order") 0 hts (jf_lwO q790 q608 q607 q616 q607 q116 q621) rfl rfl rfl q621 (by decide +kernel) ⟨by show 0 + 1 ≤ R.frames; omega, by show 8 + (1 + 11) + 40 * 0 ≤ R.locals; omega⟩) hP hS (ci := 8) hq rfl hls rfl hst hW hdg kk
  · rw [jv_cell, if_neg (by rw [e0]; decide), if_neg (by rw [e0]; decide), if_neg (by rw [e0]; decide), if_pos e0] at e1
    obtain ⟨q0, _, _, hq, -, -⟩ := jo_f3 (E := E) (S := S) (fo := fo) h0
    exact jf_vcallI hx hb hml hown hts hV (jo8_cell_met (x0a := a) e1) (va_cwO (x := ⟨"JumpFence$Order", "cell", "()I"⟩) (owner := "JumpFence$Order") 0 hts (jf_lwO q790 q608 q607 q615 q607 q116 q621) rfl rfl rfl q621 (by decide +kernel) ⟨by show 0 + 1 ≤ R.frames; omega, by show 8 + (1 + 11) + 40 * 0 ≤ R.locals; omega⟩) hP hS (ci := 9) hq rfl hls rfl hst hW hdg kk
  · rw [jv_cell, if_neg (by rw [e0]; decide), if_neg (by rw [e0]; decide), if_neg (by rw [e0]; decide), if_neg (by rw [e0]; decide), if_pos e0] at e1
    obtain ⟨q0, hq⟩ := jf_pool (E := E) (S := S) (fo := fo) h0
    exact jf_vcallI hx hb hml hown hts hV (jo13_cell_met (Or.inl h0) e1) (va_cwO (x := ⟨"JumpFence$Order", "cell", "()I"⟩) (owner := "JumpFence$Order") 0 hts (jf_lwO q790 q608 q607 q620 q611 q121 q612) rfl rfl rfl q621 (by decide +kernel) ⟨by show 0 + 1 ≤ R.frames; omega, by show 8 + (1 + 11) + 40 * 0 ≤ R.locals; omega⟩) hP hS (ci := 10) hq rfl hls rfl hst hW hdg kk
  · rw [jv_cell, if_neg (by rw [e0]; decide), if_neg (by rw [e0]; decide), if_neg (by rw [e0]; decide), if_neg (by rw [e0]; decide), if_neg (by rw [e0]; decide), if_pos e0] at e1
    obtain ⟨q0, hq⟩ := jf_pool (E := E) (S := S) (fo := fo) h0
    exact jf_vcallI hx hb hml hown hts hV (jo8_cell_met (x0a := a) e1) (va_cwO (x := ⟨"JumpFence$Order", "cell", "()I"⟩) (owner := "JumpFence$Order") 0 hts (jf_lwO q790 q608 q607 q613 q607 q116 q621) rfl rfl rfl q621 (by decide +kernel) ⟨by show 0 + 1 ≤ R.frames; omega, by show 8 + (1 + 11) + 40 * 0 ≤ R.locals; omega⟩) hP hS (ci := 11) hq rfl hls rfl hst hW hdg kk
  · rw [jv_cell, if_neg (by rw [e0]; decide), if_neg (by rw [e0]; decide), if_neg (by rw [e0]; decide), if_neg (by rw [e0]; decide), if_neg (by rw [e0]; decide), if_neg (by rw [e0]; decide), if_pos e0] at e1
    obtain ⟨q0, hq⟩ := jf_pool (E := E) (S := S) (fo := fo) h0
    exact jf_vcallI hx hb hml hown hts hV (jo13_cell_met (Or.inr h0) e1) (va_cwO (x := ⟨"JumpFence$Order", "cell", "()I"⟩) (owner := "JumpFence$Order") 0 hts (jf_lwO q790 q608 q607 q610 q611 q121 q612) rfl rfl rfl q621 (by decide +kernel) ⟨by show 0 + 1 ≤ R.frames; omega, by show 8 + (1 + 11) + 40 * 0 ≤ R.locals; omega⟩) hP hS (ci := 12) hq rfl hls rfl hst hW hdg kk
  · rw [jv_cell, if_neg (by rw [e0]; decide), if_neg (by rw [e0]; decide), if_neg (by rw [e0]; decide), if_neg (by rw [e0]; decide), if_neg (by rw [e0]; decide), if_neg (by rw [e0]; decide), if_neg (by rw [e0]; decide), if_pos e0] at e1
    obtain ⟨q0, hq⟩ := jf_pool (E := E) (S := S) (fo := fo) h0
    exact jf_vcallI hx hb hml hown hts hV (jo8_cell_met (x0a := a) e1) (va_cwO (x := ⟨"JumpFence$Order", "cell", "()I"⟩) (owner := "JumpFence$Order") 0 hts (jf_lwO q790 q608 q607 q609 q607 q116 q621) rfl rfl rfl q621 (by decide +kernel) ⟨by show 0 + 1 ≤ R.frames; omega, by show 8 + (1 + 11) + 40 * 0 ≤ R.locals; omega⟩) hP hS (ci := 13) hq rfl hls rfl hst hW hdg kk
  · rw [jv_cell, if_neg (by rw [e0]; decide), if_neg (by rw [e0]; decide), if_neg (by rw [e0]; decide), if_neg (by rw [e0]; decide), if_neg (by rw [e0]; decide), if_neg (by rw [e0]; decide), if_neg (by rw [e0]; decide), if_neg (by rw [e0]; decide), if_pos e0] at e1
    obtain ⟨q0, _, hq, -⟩ := jo_f8 (E := E) (S := S) (fo := fo) h0
    exact jf_vcallI hx hb hml hown hts hV (jo8_cell_met (x0a := a) e1) (va_cwO (x := ⟨"JumpFence$Order", "cell", "()I"⟩) (owner := "JumpFence$Order") 0 hts (jf_lwO q790 q608 q607 q614 q607 q116 q621) rfl rfl rfl q621 (by decide +kernel) ⟨by show 0 + 1 ≤ R.frames; omega, by show 8 + (1 + 11) + 40 * 0 ≤ R.locals; omega⟩) hP hS (ci := 14) hq rfl hls rfl hst hW hdg kk
  · rw [jv_cell, if_neg (by rw [e0]; decide), if_neg (by rw [e0]; decide), if_neg (by rw [e0]; decide), if_neg (by rw [e0]; decide), if_neg (by rw [e0]; decide), if_neg (by rw [e0]; decide), if_neg (by rw [e0]; decide), if_neg (by rw [e0]; decide), if_neg (by rw [e0]; decide), if_pos e0] at e1
    obtain ⟨q0, hq⟩ := jf_pool (E := E) (S := S) (fo := fo) h0
    exact jf_vcallI hx hb hml hown hts hV (jo8_cell_met (x0a := a) e1) (va_cwO (x := ⟨"JumpFence$Order", "cell", "()I"⟩) (owner := "JumpFence$Order") 0 hts (jf_lwO q790 q608 q607 q619 q607 q116 q621) rfl rfl rfl q621 (by decide +kernel) ⟨by show 0 + 1 ≤ R.frames; omega, by show 8 + (1 + 11) + 40 * 0 ≤ R.locals; omega⟩) hP hS (ci := 15) hq rfl hls rfl hst hW hdg kk
theorem jv_cell_X5 {F nL lv a : Nat} {r : jo_R}  {out : Int32 × jf_S} {stk : List Value} (hx : p.tables.exec = Jvm.exec) (hb : c.code = cc) (hml : c.maxLocals = nL) (hown : s.vm.findClass RX5 = some m.cls) (hts : ∀ w ∈ lw_all, w.before args s = true) (hlv : jx_hr R lv) (hV : jf_V D E A s) (hi : jo_Is pl a r) (e1 : jv_cell F r  S = some out) (h1 : 0 + 1 ≤ lv) (hP : jf_P D E A S fo pl H) (hS : va_S A s.heap H locs) (hls : ls.size = nL) (_ : (1 : Nat) = 1) (hst : stk = ([] : List Value).reverse ++ .ref a :: rest) (hW : 2 * (F0 m pc ls stk).monitorRoom + (rest.map fun v => v.category).sum ≤ 8) (hdg : decode cc pc = .ok (.invokevirtual 98, 3))
    (kk : ∀ (H : Heap) (locs : List Loc), jf_P D E A out.2 fo pl H → va_S A s.heap H locs → W p l e R s m args below meth c H locs 0 0 Q (F0 m (pc + 3) ls (.int out.1 :: rest))) : W p l e R s m args below meth c H locs 0 0 Q (F0 m pc ls stk) := by
  obtain ⟨hv1, hv2⟩ := hlv
  rcases hi with ⟨e0, h0⟩ | ⟨e0, h0⟩ | ⟨e0, h0⟩ | ⟨e0, h0⟩ | ⟨e0, h0⟩ | ⟨e0, h0⟩ | ⟨e0, h0⟩ | ⟨e0, h0⟩ | ⟨e0, h0⟩ | ⟨e0, h0⟩
  · rw [jv_cell, if_pos e0] at e1
    obtain ⟨q0, _, _, hq, -, -⟩ := jo_f0 (E := E) (S := S) (fo := fo) h0
    exact jf_vcallI hx hb hml hown hts hV (jo8_cell_met (x0a := a) e1) (va_cwO (x := ⟨"JumpFence$Order", "cell", "()I"⟩) (owner := "JumpFence$Order") 0 hts (jf_lwO q606 q608 q607 q618 q607 q116 q621) rfl rfl rfl q621 (by decide +kernel) ⟨by show 0 + 1 ≤ R.frames; omega, by show 8 + (1 + 11) + 40 * 0 ≤ R.locals; omega⟩) hP hS (ci := 6) hq rfl hls rfl hst hW hdg kk
  · rw [jv_cell, if_neg (by rw [e0]; decide), if_pos e0] at e1
    obtain ⟨q0, hq⟩ := jf_pool (E := E) (S := S) (fo := fo) h0
    exact jf_vcallI hx hb hml hown hts hV (jo8_cell_met (x0a := a) e1) (va_cwO (x := ⟨"JumpFence$Order", "cell", "()I"⟩) (owner := "JumpFence$Order") 0 hts (jf_lwO q606 q608 q607 q617 q607 q116 q621) rfl rfl rfl q621 (by decide +kernel) ⟨by show 0 + 1 ≤ R.frames; omega, by show 8 + (1 + 11) + 40 * 0 ≤ R.locals; omega⟩) hP hS (ci := 7) hq rfl hls rfl hst hW hdg kk
  · rw [jv_cell, if_neg (by rw [e0]; decide), if_neg (by rw [e0]; decide), if_pos e0] at e1
    obtain ⟨q0, hq⟩ := jf_pool (E := E) (S := S) (fo := fo) h0
    exact jf_vcallI hx hb hml hown hts hV (jo8_cell_met (x0a := a) e1) (va_cwO (x := ⟨"JumpFence$Order", "cell", "()I"⟩) (owner := "JumpFence$Order") 0 hts (jf_lwO q606 q608 q607 q616 q607 q116 q621) rfl rfl rfl q621 (by decide +kernel) ⟨by show 0 + 1 ≤ R.frames; omega, by show 8 + (1 + 11) + 40 * 0 ≤ R.locals; omega⟩) hP hS (ci := 8) hq rfl hls rfl hst hW hdg kk
  · rw [jv_cell, if_neg (by rw [e0]; decide), if_neg (by rw [e0]; decide), if_neg (by rw [e0]; decide), if_pos e0] at e1
    obtain ⟨q0, _, _, hq, -, -⟩ := jo_f3 (E := E) (S := S) (fo := fo) h0
    exact jf_vcallI hx hb hml hown hts hV (jo8_cell_met (x0a := a) e1) (va_cwO (x := ⟨"JumpFence$Order", "cell", "()I"⟩) (owner := "JumpFence$Order") 0 hts (jf_lwO q606 q608 q607 q615 q607 q116 q621) rfl rfl rfl q621 (by decide +kernel) ⟨by show 0 + 1 ≤ R.frames; omega, by show 8 + (1 + 11) + 40 * 0 ≤ R.locals; omega⟩) hP hS (ci := 9) hq rfl hls rfl hst hW hdg kk
  · rw [jv_cell, if_neg (by rw [e0]; decide), if_neg (by rw [e0]; decide), if_neg (by rw [e0]; decide), if_neg (by rw [e0]; decide), if_pos e0] at e1
    obtain ⟨q0, hq⟩ := jf_pool (E := E) (S := S) (fo := fo) h0
    exact jf_vcallI hx hb hml hown hts hV (jo13_cell_met (Or.inl h0) e1) (va_cwO (x := ⟨"JumpFence$Order", "cell", "()I"⟩) (owner := "JumpFence$Order") 0 hts (jf_lwO q606 q608 q607 q620 q611 q121 q612) rfl rfl rfl q621 (by decide +kernel) ⟨by show 0 + 1 ≤ R.frames; omega, by show 8 + (1 + 11) + 40 * 0 ≤ R.locals; omega⟩) hP hS (ci := 10) hq rfl hls rfl hst hW hdg kk
  · rw [jv_cell, if_neg (by rw [e0]; decide), if_neg (by rw [e0]; decide), if_neg (by rw [e0]; decide), if_neg (by rw [e0]; decide), if_neg (by rw [e0]; decide), if_pos e0] at e1
    obtain ⟨q0, hq⟩ := jf_pool (E := E) (S := S) (fo := fo) h0
    exact jf_vcallI hx hb hml hown hts hV (jo8_cell_met (x0a := a) e1) (va_cwO (x := ⟨"JumpFence$Order", "cell", "()I"⟩) (owner := "JumpFence$Order") 0 hts (jf_lwO q606 q608 q607 q613 q607 q116 q621) rfl rfl rfl q621 (by decide +kernel) ⟨by show 0 + 1 ≤ R.frames; omega, by show 8 + (1 + 11) + 40 * 0 ≤ R.locals; omega⟩) hP hS (ci := 11) hq rfl hls rfl hst hW hdg kk
  · rw [jv_cell, if_neg (by rw [e0]; decide), if_neg (by rw [e0]; decide), if_neg (by rw [e0]; decide), if_neg (by rw [e0]; decide), if_neg (by rw [e0]; decide), if_neg (by rw [e0]; decide), if_pos e0] at e1
    obtain ⟨q0, hq⟩ := jf_pool (E := E) (S := S) (fo := fo) h0
    exact jf_vcallI hx hb hml hown hts hV (jo13_cell_met (Or.inr h0) e1) (va_cwO (x := ⟨"JumpFence$Order", "cell", "()I"⟩) (owner := "JumpFence$Order") 0 hts (jf_lwO q606 q608 q607 q610 q611 q121 q612) rfl rfl rfl q621 (by decide +kernel) ⟨by show 0 + 1 ≤ R.frames; omega, by show 8 + (1 + 11) + 40 * 0 ≤ R.locals; omega⟩) hP hS (ci := 12) hq rfl hls rfl hst hW hdg kk
  · rw [jv_cell, if_neg (by rw [e0]; decide), if_neg (by rw [e0]; decide), if_neg (by rw [e0]; decide), if_neg (by rw [e0]; decide), if_neg (by rw [e0]; decide), if_neg (by rw [e0]; decide), if_neg (by rw [e0]; decide), if_pos e0] at e1
    obtain ⟨q0, hq⟩ := jf_pool (E := E) (S := S) (fo := fo) h0
    exact jf_vcallI hx hb hml hown hts hV (jo8_cell_met (x0a := a) e1) (va_cwO (x := ⟨"JumpFence$Order", "cell", "()I"⟩) (owner := "JumpFence$Order") 0 hts (jf_lwO q606 q608 q607 q609 q607 q116 q621) rfl rfl rfl q621 (by decide +kernel) ⟨by show 0 + 1 ≤ R.frames; omega, by show 8 + (1 + 11) + 40 * 0 ≤ R.locals; omega⟩) hP hS (ci := 13) hq rfl hls rfl hst hW hdg kk
  · rw [jv_cell, if_neg (by rw [e0]; decide), if_neg (by rw [e0]; decide), if_neg (by rw [e0]; decide), if_neg (by rw [e0]; decide), if_neg (by rw [e0]; decide), if_neg (by rw [e0]; decide), if_neg (by rw [e0]; decide), if_neg (by rw [e0]; decide), if_pos e0] at e1
    obtain ⟨q0, _, hq, -⟩ := jo_f8 (E := E) (S := S) (fo := fo) h0
    exact jf_vcallI hx hb hml hown hts hV (jo8_cell_met (x0a := a) e1) (va_cwO (x := ⟨"JumpFence$Order", "cell", "()I"⟩) (owner := "JumpFence$Order") 0 hts (jf_lwO q606 q608 q607 q614 q607 q116 q621) rfl rfl rfl q621 (by decide +kernel) ⟨by show 0 + 1 ≤ R.frames; omega, by show 8 + (1 + 11) + 40 * 0 ≤ R.locals; omega⟩) hP hS (ci := 14) hq rfl hls rfl hst hW hdg kk
  · rw [jv_cell, if_neg (by rw [e0]; decide), if_neg (by rw [e0]; decide), if_neg (by rw [e0]; decide), if_neg (by rw [e0]; decide), if_neg (by rw [e0]; decide), if_neg (by rw [e0]; decide), if_neg (by rw [e0]; decide), if_neg (by rw [e0]; decide), if_neg (by rw [e0]; decide), if_pos e0] at e1
    obtain ⟨q0, hq⟩ := jf_pool (E := E) (S := S) (fo := fo) h0
    exact jf_vcallI hx hb hml hown hts hV (jo8_cell_met (x0a := a) e1) (va_cwO (x := ⟨"JumpFence$Order", "cell", "()I"⟩) (owner := "JumpFence$Order") 0 hts (jf_lwO q606 q608 q607 q619 q607 q116 q621) rfl rfl rfl q621 (by decide +kernel) ⟨by show 0 + 1 ≤ R.frames; omega, by show 8 + (1 + 11) + 40 * 0 ≤ R.locals; omega⟩) hP hS (ci := 15) hq rfl hls rfl hst hW hdg kk
theorem jk_lands_g_X13 : GoodIn lw_all (wsV RX13 40 RX5 yX5_lands (ws_ yX5_lands cX5_lands 3 (some .int))) := lw_V q630 q558 q559 q109 q560
theorem jk_lands_g_X16 : GoodIn lw_all (wsV RX16 33 RX5 yX5_lands (ws_ yX5_lands cX5_lands 3 (some .int))) := lw_V q557 q558 q559 q109 q560
theorem jk_lands_d : yX5_lands.cls = RX5 ∧ yX5_lands.cls ≠ "java/lang/invoke/MethodHandle" ∧ yX5_lands.cls ≠ "java/lang/invoke/VarHandle" ∧ (parseMethodDescriptor yX5_lands.desc).map (fun d => d.parameters.length) = some 2 := by decide +kernel
theorem jk_lands_b96_ok {out : Int32 × jf_S} (hX : jf_Ok RX5 p R s m args meth c A D E cX5_lands 3 (some .int) 3) (F : Nat) (x1 : Int32) (x2 : Int32) (S : jf_S) (h : jk_lands_b96 F x1 x2 S = some out) : jf_J p l e R s m args below meth c A D E fo pl 3 (jf_Qi below args s A D E fo pl out) 96 [(0, .ref (E.1 5)), (1, .int x1), (2, .int x2)] [] S := by
  intro H locs ls hP hS hl
  have hX0 := hX
  obtain ⟨hx, hb, hml, hown, hts, hlk, hr, hlv, hV, het⟩ := hX0
  unfold jk_lands_b96 at h
  refine lv_aload_n hx hb dX5_lands_96 rfl (lv_at hl 0 rfl) ?_
  refine lv_dup hx hb dX5_lands_97 rfl ?_
  refine jf_get hx hb hts in_X5 hown hV hP (ci := 4) (k := 13) jf_o5 rfl (by decide) (hts _ q400) rfl rfl dX5_lands_98 ?_
  refine lv_iconst hx hb dX5_lands_101 jx_ki1 ?_
  refine lv_iadd hx hb dX5_lands_102 ?_
  obtain ⟨S1, eS1, h⟩ := jx_nx_some h
  refine jf_put (S1 := S1) hx hb hts in_X5 tyX5_ok nmX5 hown hV hP hS (ci := 4) (k := 13) (by rw [eS1]; rfl) jf_o5 (by rw [eS1]; exact jf_s5_13 _) rfl (by decide) (hts _ q400) rfl rfl (tyX5_ok 13 (by decide)) ⟨rfl, rfl⟩ (Nat.le_of_ble_eq_true rfl) dX5_lands_103 (fun H locs hP hS => ?_)
  refine lv_aload_n hx hb dX5_lands_106 rfl (lv_at hl 0 rfl) ?_
  refine lv_dup hx hb dX5_lands_107 rfl ?_
  refine jf_get hx hb hts in_X5 hown hV hP (ci := 4) (k := 11) jf_o5 rfl (by decide) (hts _ q396) rfl rfl dX5_lands_108 ?_
  refine lv_aload_n hx hb dX5_lands_111 rfl (lv_at hl 0 rfl) ?_
  refine jf_get hx hb hts in_X5 hown hV hP (ci := 4) (k := 0) jf_o5 rfl (by decide) (hts _ q371) rfl rfl dX5_lands_112 ?_
  refine jf_getN hx hb hts in_X4 hown hV hP (ci := 3) (k := 2) (jf_oP (Or.inl rfl)) rfl (by decide) (jf_l_X5_101 hV.2.2.1) rfl rfl dX5_lands_115 ?_
  refine lv_aload_n hx hb dX5_lands_118 rfl (lv_at hl 0 rfl) ?_
  refine jf_get hx hb hts in_X5 hown hV hP (ci := 4) (k := 0) jf_o5 rfl (by decide) (hts _ q371) rfl rfl dX5_lands_119 ?_
  refine jf_getN hx hb hts in_X4 hown hV hP (ci := 3) (k := 1) (jf_oP (Or.inl rfl)) rfl (by decide) (jf_l_X5_68 hV.2.2.1) rfl rfl dX5_lands_122 ?_
  refine lv_iload_n hx hb dX5_lands_125 rfl (lv_at hl 1 rfl) ?_
  obtain ⟨j2, ej2, bj2, h⟩ := jx_ga_some h
  refine jf_iald hx hb hV hP (jf_aP1 (Or.inl rfl)) ej2 bj2 dX5_lands_126 ?_
  obtain ⟨j3, ej3, bj3, h⟩ := jx_ga_some h
  refine jf_iald hx hb hV hP (jf_aP2 (Or.inl rfl)) ej3 bj3 dX5_lands_127 ?_
  refine lv_iadd hx hb dX5_lands_128 ?_
  obtain ⟨S4, eS4, h⟩ := jx_nx_some h
  refine jf_put (S1 := S4) hx hb hts in_X5 tyX5_ok nmX5 hown hV hP hS (ci := 4) (k := 11) (by rw [eS4]; rfl) jf_o5 (by rw [eS4]; exact jf_s5_11 _) rfl (by decide) (hts _ q396) rfl rfl (tyX5_ok 11 (by decide)) ⟨rfl, rfl⟩ (Nat.le_of_ble_eq_true rfl) dX5_lands_129 (fun H locs hP hS => ?_)
  refine lv_iload_n hx hb dX5_lands_132 rfl (lv_at hl 2 rfl) ?_
  exact jf_iret hx hb hr hlk hV hP hS h dX5_lands_133
theorem jk_lands_ok {out : Int32 × jf_S} (hX : jf_Ok RX5 p R s m args meth c A D E cX5_lands 3 (some .int) 3) (F : Nat) (x1 : Int32) (x2 : Int32) (S : jf_S) (h : jk_lands F x1 x2 S = some out) : jf_J p l e R s m args below meth c A D E fo pl 3 (jf_Qi below args s A D E fo pl out) 0 [(0, .ref (E.1 5)), (1, .int x1), (2, .int x2)] [] S := by
  intro H locs ls hP hS hl
  have hX0 := hX
  obtain ⟨hx, hb, hml, hown, hts, hlk, hr, hlv, hV, het⟩ := hX0
  unfold jk_lands at h
  refine lv_aload_n hx hb dX5_lands_0 rfl (lv_at hl 0 rfl) ?_
  refine lv_iload_n hx hb dX5_lands_1 rfl (lv_at hl 1 rfl) ?_
  refine lv_iload_n hx hb dX5_lands_2 rfl (lv_at hl 2 rfl) ?_
  obtain ⟨q1, eq1, h⟩ := jx_bi_some h
  refine jf_callI hx hb hml hown hts hlv hV (jk_isLet_met eq1) jk_isLet_g_X5 jk_isLet_d (As := [.int x1, .int x2]) (Nat.le_of_ble_eq_true rfl) (Nat.le_of_ble_eq_true rfl) hP hS (ci := 4) jf_o5 rfl hl.1 rfl rfl (lv_room (Nat.le_of_ble_eq_true rfl)) dX5_lands_3 (fun H locs hP hS => ?_)
  refine lv_if_ne (tgt := 96) hx hb dX5_lands_6 rfl (fun c2 => ?_) (fun c2 => ?_)
  · rw [if_neg c2] at h
    exact jk_lands_b96_ok hX F _ _ _ h _ _ _ hP hS hl
  · rw [if_pos c2] at h
    refine lv_aload_n hx hb dX5_lands_9 rfl (lv_at hl 0 rfl) ?_
    refine jf_get hx hb hts in_X5 hown hV hP (ci := 4) (k := 18) jf_o5 rfl (by decide) (hts _ q413) rfl rfl dX5_lands_10 ?_
    refine lv_if_eq (tgt := 80) hx hb dX5_lands_13 rfl (fun c3 => ?_) (fun c3 => ?_)
    · rw [if_pos c3] at h
      refine lv_aload_n hx hb dX5_lands_80 rfl (lv_at hl 0 rfl) ?_
      refine jf_get hx hb hts in_X5 hown hV hP (ci := 4) (k := 17) jf_o5 rfl (by decide) (hts _ q411) rfl rfl dX5_lands_81 ?_
      refine lv_iconst hx hb dX5_lands_84 jx_kim1 ?_
      refine lv_icmp_ne (tgt := 96) hx hb dX5_lands_85 rfl (fun c4 => ?_) (fun c4 => ?_)
      · rw [if_neg c4] at h
        exact jk_lands_b96_ok hX F _ _ _ h _ _ _ hP hS hl
      · rw [if_pos c4] at h
        refine lv_aload_n hx hb dX5_lands_88 rfl (lv_at hl 0 rfl) ?_
        refine lv_aload_n hx hb dX5_lands_89 rfl (lv_at hl 0 rfl) ?_
        refine jf_get hx hb hts in_X5 hown hV hP (ci := 4) (k := 13) jf_o5 rfl (by decide) (hts _ q400) rfl rfl dX5_lands_90 ?_
        obtain ⟨S5, eS5, h⟩ := jx_nx_some h
        refine jf_put (S1 := S5) hx hb hts in_X5 tyX5_ok nmX5 hown hV hP hS (ci := 4) (k := 17) (by rw [eS5]; rfl) jf_o5 (by rw [eS5]; exact jf_s5_17 _) rfl (by decide) (hts _ q411) rfl rfl (tyX5_ok 17 (by decide)) ⟨rfl, rfl⟩ (Nat.le_of_ble_eq_true rfl) dX5_lands_93 (fun H locs hP hS => ?_)
        exact jk_lands_b96_ok hX F _ _ _ h _ _ _ hP hS hl
    · rw [if_neg c3] at h
      refine lv_aload_n hx hb dX5_lands_16 rfl (lv_at hl 0 rfl) ?_
      refine lv_iconst hx hb dX5_lands_17 jx_ki1 ?_
      obtain ⟨S6, eS6, h⟩ := jx_nx_some h
      refine jf_put (S1 := S6) hx hb hts in_X5 tyX5_ok nmX5 hown hV hP hS (ci := 4) (k := 14) (by rw [eS6]; rfl) jf_o5 (by rw [eS6]; exact jf_s5_14 _) rfl (by decide) (hts _ q402) rfl rfl (tyX5_ok 14 (by decide)) ⟨rfl, rfl⟩ (Nat.le_of_ble_eq_true rfl) dX5_lands_18 (fun H locs hP hS => ?_)
      refine lv_aload_n hx hb dX5_lands_21 rfl (lv_at hl 0 rfl) ?_
      refine lv_iload_n hx hb dX5_lands_22 rfl (lv_at hl 2 rfl) ?_
      obtain ⟨S7, eS7, h⟩ := jx_nx_some h
      refine jf_put (S1 := S7) hx hb hts in_X5 tyX5_ok nmX5 hown hV hP hS (ci := 4) (k := 16) (by rw [eS7]; rfl) jf_o5 (by rw [eS7]; exact jf_s5_16 _) rfl (by decide) (hts _ q409) rfl rfl (tyX5_ok 16 (by decide)) ⟨rfl, rfl⟩ (Nat.le_of_ble_eq_true rfl) dX5_lands_23 (fun H locs hP hS => ?_)
      refine lv_aload_n hx hb dX5_lands_26 rfl (lv_at hl 0 rfl) ?_
      refine lv_aload_n hx hb dX5_lands_27 rfl (lv_at hl 0 rfl) ?_
      refine jf_get hx hb hts in_X5 hown hV hP (ci := 4) (k := 0) jf_o5 rfl (by decide) (hts _ q371) rfl rfl dX5_lands_28 ?_
      refine jf_getN hx hb hts in_X4 hown hV hP (ci := 3) (k := 0) (jf_oP (Or.inl rfl)) rfl (by decide) (jf_l_X5_73 hV.2.2.1) rfl rfl dX5_lands_31 ?_
      refine lv_iload_n hx hb dX5_lands_34 rfl (lv_at hl 1 rfl) ?_
      obtain ⟨j8, ej8, bj8, h⟩ := jx_ga_some h
      obtain ⟨r9, er9, h⟩ := jx_bi_some h
      refine jf_qald hx hb hV hP (jf_aP0 (Or.inl rfl)) ej8 bj8 er9 dX5_lands_35 (fun r9a r9h => ?_)
      obtain ⟨q10, eq10, h⟩ := jx_bi_some h
      refine jv_word_X5 hx hb hml hown hts hlv hV r9h eq10 (Nat.le_of_ble_eq_true rfl) hP hS hl.1 rfl rfl (lv_room (Nat.le_of_ble_eq_true rfl)) dX5_lands_36 (fun H locs hP hS => ?_)
      refine lv_bipush hx hb dX5_lands_39 jx_kb7 ?_
      refine lv_icmp_ne (tgt := 58) hx hb dX5_lands_41 rfl (fun c11 => ?_) (fun c11 => ?_)
      · rw [if_neg c11] at h
        refine lv_aload_n hx hb dX5_lands_58 rfl (lv_at hl 0 rfl) ?_
        refine jf_get hx hb hts in_X5 hown hV hP (ci := 4) (k := 2) jf_o5 rfl (by decide) (hts _ q376) rfl rfl dX5_lands_59 ?_
        refine lv_aload_n hx hb dX5_lands_62 rfl (lv_at hl 0 rfl) ?_
        refine jf_get hx hb hts in_X5 hown hV hP (ci := 4) (k := 0) jf_o5 rfl (by decide) (hts _ q371) rfl rfl dX5_lands_63 ?_
        refine jf_getN hx hb hts in_X4 hown hV hP (ci := 3) (k := 0) (jf_oP (Or.inl rfl)) rfl (by decide) (jf_l_X5_73 hV.2.2.1) rfl rfl dX5_lands_66 ?_
        refine lv_iload_n hx hb dX5_lands_69 rfl (lv_at hl 1 rfl) ?_
        obtain ⟨j12, ej12, bj12, h⟩ := jx_ga_some h
        obtain ⟨r13, er13, h⟩ := jx_bi_some h
        refine jf_qald hx hb hV hP (jf_aP0 (Or.inl rfl)) ej12 bj12 er13 dX5_lands_70 (fun r13a r13h => ?_)
        obtain ⟨q14, eq14, h⟩ := jx_bi_some h
        refine jv_cell_X5 hx hb hml hown hts hlv hV r13h eq14 (Nat.le_of_ble_eq_true rfl) hP hS hl.1 rfl rfl (lv_room (Nat.le_of_ble_eq_true rfl)) dX5_lands_71 (fun H locs hP hS => ?_)
        obtain ⟨j15, ej15, bj15, h⟩ := jx_ga_some h
        refine jf_iald hx hb hV hP jf_a5_2 ej15 bj15 dX5_lands_74 ?_
        obtain ⟨S16, eS16, h⟩ := jx_nx_some h
        refine jf_put (S1 := S16) hx hb hts in_X5 tyX5_ok nmX5 hown hV hP hS (ci := 4) (k := 15) (by rw [eS16]; rfl) jf_o5 (by rw [eS16]; exact jf_s5_15 _) rfl (by decide) (hts _ q407) rfl rfl (tyX5_ok 15 (by decide)) ⟨rfl, rfl⟩ (Nat.le_of_ble_eq_true rfl) dX5_lands_75 (fun H locs hP hS => ?_)
        refine lv_iload_n hx hb dX5_lands_78 rfl (lv_at hl 1 rfl) ?_
        exact jf_iret hx hb hr hlk hV hP hS h dX5_lands_79
      · rw [if_pos c11] at h
        refine lv_aload_n hx hb dX5_lands_44 rfl (lv_at hl 0 rfl) ?_
        refine jf_get hx hb hts in_X5 hown hV hP (ci := 4) (k := 5) jf_o5 rfl (by decide) (hts _ q382) rfl rfl dX5_lands_45 ?_
        refine lv_aload_n hx hb dX5_lands_48 rfl (lv_at hl 0 rfl) ?_
        refine jf_get hx hb hts in_X5 hown hV hP (ci := 4) (k := 8) jf_o5 rfl (by decide) (hts _ q387) rfl rfl dX5_lands_49 ?_
        refine lv_iconst hx hb dX5_lands_52 jx_ki1 ?_
        refine lv_isub hx hb dX5_lands_53 ?_
        obtain ⟨j17, ej17, bj17, h⟩ := jx_ga_some h
        refine jf_iald hx hb hV hP jf_a5_5 ej17 bj17 dX5_lands_54 ?_
        refine lv_goto (tgt := 75) hx hb dX5_lands_55 rfl ?_
        obtain ⟨S18, eS18, h⟩ := jx_nx_some h
        refine jf_put (S1 := S18) hx hb hts in_X5 tyX5_ok nmX5 hown hV hP hS (ci := 4) (k := 15) (by rw [eS18]; rfl) jf_o5 (by rw [eS18]; exact jf_s5_15 _) rfl (by decide) (hts _ q407) rfl rfl (tyX5_ok 15 (by decide)) ⟨rfl, rfl⟩ (Nat.le_of_ble_eq_true rfl) dX5_lands_75 (fun H locs hP hS => ?_)
        refine lv_iload_n hx hb dX5_lands_78 rfl (lv_at hl 1 rfl) ?_
        exact jf_iret hx hb hr hlk hV hP hS h dX5_lands_79
theorem jk_lands_met {l : Launch} {D : va_G} {E : jf_E} {A : Nat → Prop} {fo : Nat → Nat → Option Nat} {pl : va_W} {F : Nat} {x1 : Int32} {x2 : Int32} {S : jf_S} {out : Int32 × jf_S} (h : jk_lands F x1 x2 S = some out) : jf_Mi l D E A fo pl yX5_lands cX5_lands 3 (some .int) 3 [.ref (E.1 5), .int x1, .int x2] S out :=
  jf_Mi_of (own := RX5) ⟨by decide, rfl, Nat.le_of_ble_eq_true rfl⟩ (fun hX => jk_lands_ok hX F x1 x2 S h)
theorem jo13_does_d : yX13_does.cls = RX13 ∧ yX13_does.cls ≠ "java/lang/invoke/MethodHandle" ∧ yX13_does.cls ≠ "java/lang/invoke/VarHandle" ∧ (parseMethodDescriptor yX13_does.desc).map (fun d => d.parameters.length) = some 2 := by decide +kernel
theorem jo13_does_ok {out : Int32 × jf_S} (hX : jf_Ok RX13 p R s m args meth c A D E cX13_does 3 (some .int) 4) (F : Nat) (x0 : jo_R) {x0a : Nat} (x0h : jo_mT pl x0a x0) (x2 : Int32) (S : jf_S) (h : jo13_does F x0 x2 S = some out) : jf_J p l e R s m args below meth c A D E fo pl 3 (jf_Qi below args s A D E fo pl out) 0 [(0, .ref x0a), (1, .ref (E.1 5)), (2, .int x2)] [] S := by
  intro H locs ls hP hS hl
  have hX0 := hX
  obtain ⟨hx, hb, hml, hown, hts, hlk, hr, hlv, hV, het⟩ := hX0
  unfold jo13_does at h
  refine lv_aload_n hx hb dX13_does_0 rfl (lv_at hl 1 rfl) ?_
  refine lv_iload_n hx hb dX13_does_1 rfl (lv_at hl 2 rfl) ?_
  refine lv_aload_n hx hb dX13_does_2 rfl (lv_at hl 1 rfl) ?_
  refine jf_getN hx hb hts in_X5 hown hV hP (ci := 4) (k := 1) jf_o5 rfl (by decide) (jf_l_X13_34 hV.2.2.1) rfl rfl dX13_does_3 ?_
  refine lv_aload_n hx hb dX13_does_6 rfl (lv_at hl 0 rfl) ?_
  refine jf_getT (k := 1) hx hb hts hown hV hP x0h (by decide) (hts _ q1156) rfl rfl dX13_does_7 ?_
  obtain ⟨j1, ej1, bj1, h⟩ := jx_ga_some h
  refine jf_iald hx hb hV hP jf_a5_1 ej1 bj1 dX13_does_10 ?_
  obtain ⟨q2, eq2, h⟩ := jx_bi_some h
  refine jf_callI hx hb hml hown hts hlv hV (jk_lands_met eq2) jk_lands_g_X13 jk_lands_d (As := [.int x2, .int (S.2.2.1 5 1 j1)]) (Nat.le_of_ble_eq_true rfl) (Nat.le_of_ble_eq_true rfl) hP hS (ci := 4) jf_o5 rfl hl.1 rfl rfl (lv_room (Nat.le_of_ble_eq_true rfl)) dX13_does_11 (fun H locs hP hS => ?_)
  exact jf_iret hx hb hr hlk hV hP hS h dX13_does_14
theorem jo13_does_met {l : Launch} {D : va_G} {E : jf_E} {A : Nat → Prop} {fo : Nat → Nat → Option Nat} {pl : va_W} {F : Nat} {x0 : jo_R} {x0a : Nat} (x0h : jo_mT pl x0a x0) {x2 : Int32} {S : jf_S} {out : Int32 × jf_S} (h : jo13_does F x0 x2 S = some out) : jf_Mi l D E A fo pl yX13_does cX13_does 3 (some .int) 4 [.ref x0a, .ref (E.1 5), .int x2] S out :=
  jf_Mi_of (own := RX13) ⟨by decide, rfl, Nat.le_of_ble_eq_true rfl⟩ (fun hX => jo13_does_ok hX F x0 x0h x2 S h)
end

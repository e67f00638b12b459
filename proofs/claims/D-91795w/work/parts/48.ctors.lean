set_option maxRecDepth 100000
theorem jc_X7_X7 {l : Launch} {D : va_G} {tys : List (ClassId × FieldType)} {a : Nat} {v0 : Int32} {v1 : Int32} : jc_M l D tys yX7_init cX7_init 3 2 [.ref a, .int v0, .int v1] a 5 [.int 0, .int 0] [.int v0, .int v1] := by
  refine jc_M_of (own := RX7) ⟨by decide, rfl, Nat.le_of_ble_eq_true rfl, rfl⟩ (fun hx hb hml hown hts hlk hr hni hK hP hS hl => ?_)
  refine lv_aload_n hx hb dX7_init_0 rfl (lv_at hl 0 rfl) ?_
  refine W.objInit hx hb hown (hts _ q1043) (hts _ q143) (hts _ q144) rfl (hl.1.trans hml.symm) rfl dX7_init_1 (Nat.le_of_ble_eq_true rfl) (Nat.le_of_ble_eq_true rfl) ?_
  refine lv_aload_n hx hb dX7_init_4 rfl (lv_at hl 0 rfl) ?_
  refine lv_iload_n hx hb dX7_init_5 rfl (lv_at hl 1 rfl) ?_
  refine jc_put hx hb hts in_X7 tyX7_ok nmX7 hown hni hK hP hS (k := 0) (ci := 5) rfl (by decide) (hts _ q1044) rfl rfl rfl (tyX7_ok 0 (by decide)) ⟨rfl, rfl⟩ (Nat.le_of_ble_eq_true rfl) dX7_init_6 (fun H locs hP hS => ?_)
  refine lv_aload_n hx hb dX7_init_9 rfl (lv_at hl 0 rfl) ?_
  refine lv_iload_n hx hb dX7_init_10 rfl (lv_at hl 2 rfl) ?_
  refine jc_put hx hb hts in_X7 tyX7_ok nmX7 hown hni hK hP hS (k := 1) (ci := 5) rfl (by decide) (hts _ q1049) rfl rfl rfl (tyX7_ok 1 (by decide)) ⟨rfl, rfl⟩ (Nat.le_of_ble_eq_true rfl) dX7_init_11 (fun H locs hP hS => ?_)
  exact jc_ret hx hb hr hlk hK hP hS rfl dX7_init_14
theorem jc_X8_X9 {l : Launch} {D : va_G} {tys : List (ClassId × FieldType)} {a : Nat} {v0 : Int32} : jc_M l D tys yX8_init cX8_init 2 2 [.ref a, .int v0] a 6 [.int 0, .int 0, .int 0, .null, .null] [.int v0, .int 0, .int 0, .null, .null] := by
  refine jc_M_of (own := RX8) ⟨by decide, rfl, Nat.le_of_ble_eq_true rfl, rfl⟩ (fun hx hb hml hown hts hlk hr hni hK hP hS hl => ?_)
  refine lv_aload_n hx hb dX8_init_0 rfl (lv_at hl 0 rfl) ?_
  refine W.objInit hx hb hown (hts _ q1065) (hts _ q143) (hts _ q144) rfl (hl.1.trans hml.symm) rfl dX8_init_1 (Nat.le_of_ble_eq_true rfl) (Nat.le_of_ble_eq_true rfl) ?_
  refine lv_aload_n hx hb dX8_init_4 rfl (lv_at hl 0 rfl) ?_
  refine lv_iload_n hx hb dX8_init_5 rfl (lv_at hl 1 rfl) ?_
  refine jc_put hx hb hts in_X9 tyX9_ok nmX9 hown hni hK hP hS (k := 0) (ci := 6) rfl (by decide) (hts _ q1071) rfl rfl rfl (tyX9_ok 0 (by decide)) ⟨rfl, rfl⟩ (Nat.le_of_ble_eq_true rfl) dX8_init_6 (fun H locs hP hS => ?_)
  exact jc_ret hx hb hr hlk hK hP hS rfl dX8_init_9
theorem jc_X9_X9 {l : Launch} {D : va_G} {tys : List (ClassId × FieldType)} {a : Nat} {v0 : Int32} {v1 : Int32} {w2 : Nat} {v3 : Int32} {w4 : Nat} : jc_M l D tys yX9_init cX9_init 6 3 [.ref a, .int v0, .int v1, .ref w2, .int v3, .ref w4] a 6 [.int 0, .int 0, .int 0, .null, .null] [.int v0, .int v1, .int v3, .ref w2, .ref w4] := by
  refine jc_M_of (own := RX9) ⟨by decide, rfl, Nat.le_of_ble_eq_true rfl, rfl⟩ (fun hx hb hml hown hts hlk hr hni hK hP hS hl => ?_)
  refine lv_aload_n hx hb dX9_init_0 rfl (lv_at hl 0 rfl) ?_
  refine lv_iload_n hx hb dX9_init_1 rfl (lv_at hl 1 rfl) ?_
  refine jc_super (lv := 3) (n := 1) (As := [.int v0]) hx hb hml hown hts ⟨Nat.le_refl _, Nat.le_refl _⟩ hK jc_X8_X9 q1062 q116 q1063 q1064 ⟨rfl, by decide +kernel⟩ (Nat.le_of_ble_eq_true rfl) (Nat.le_of_ble_eq_true rfl) hP hS ⟨Nat.zero_le _, Nat.zero_le _⟩ hl.1 rfl rfl (lv_room (Nat.le_of_ble_eq_true rfl)) dX9_init_2 (fun H locs hP hS => ?_)
  refine lv_aload_n hx hb dX9_init_5 rfl (lv_at hl 0 rfl) ?_
  refine lv_iload_n hx hb dX9_init_6 rfl (lv_at hl 2 rfl) ?_
  refine jc_put hx hb hts in_X9 tyX9_ok nmX9 hown hni hK hP hS (k := 1) (ci := 6) rfl (by decide) (hts _ q1066) rfl rfl rfl (tyX9_ok 1 (by decide)) ⟨rfl, rfl⟩ (Nat.le_of_ble_eq_true rfl) dX9_init_7 (fun H locs hP hS => ?_)
  refine lv_aload_n hx hb dX9_init_10 rfl (lv_at hl 0 rfl) ?_
  refine lv_aload_n hx hb dX9_init_11 rfl (lv_at hl 3 rfl) ?_
  refine jc_put hx hb hts in_X9 tyX9_ok nmX9 hown hni hK hP hS (k := 3) (ci := 6) rfl (by decide) (hts _ q1069) rfl rfl rfl (tyX9_ok 3 (by decide)) ⟨rfl, rfl⟩ (Nat.le_of_ble_eq_true rfl) dX9_init_12 (fun H locs hP hS => ?_)
  refine lv_aload_n hx hb dX9_init_15 rfl (lv_at hl 0 rfl) ?_
  refine lv_iload hx hb dX9_init_16 (lv_at hl 4 rfl) ?_
  refine jc_put hx hb hts in_X9 tyX9_ok nmX9 hown hni hK hP hS (k := 2) (ci := 6) rfl (by decide) (hts _ q1068) rfl rfl rfl (tyX9_ok 2 (by decide)) ⟨rfl, rfl⟩ (Nat.le_of_ble_eq_true rfl) dX9_init_18 (fun H locs hP hS => ?_)
  refine lv_aload_n hx hb dX9_init_21 rfl (lv_at hl 0 rfl) ?_
  refine lv_aload hx hb dX9_init_22 (lv_at hl 5 rfl) ?_
  refine jc_put hx hb hts in_X9 tyX9_ok nmX9 hown hni hK hP hS (k := 4) (ci := 6) rfl (by decide) (hts _ q1070) rfl rfl rfl (tyX9_ok 4 (by decide)) ⟨rfl, rfl⟩ (Nat.le_of_ble_eq_true rfl) dX9_init_24 (fun H locs hP hS => ?_)
  exact jc_ret hx hb hr hlk hK hP hS rfl dX9_init_27
theorem jc_X9_X9N {l : Launch} {D : va_G} {tys : List (ClassId × FieldType)} {a : Nat} {v0 : Int32} {v1 : Int32} {w2 : Nat} {v3 : Int32} : jc_M l D tys yX9_init cX9_init 6 3 [.ref a, .int v0, .int v1, .ref w2, .int v3, .null] a 6 [.int 0, .int 0, .int 0, .null, .null] [.int v0, .int v1, .int v3, .ref w2, .null] := by
  refine jc_M_of (own := RX9) ⟨by decide, rfl, Nat.le_of_ble_eq_true rfl, rfl⟩ (fun hx hb hml hown hts hlk hr hni hK hP hS hl => ?_)
  refine lv_aload_n hx hb dX9_init_0 rfl (lv_at hl 0 rfl) ?_
  refine lv_iload_n hx hb dX9_init_1 rfl (lv_at hl 1 rfl) ?_
  refine jc_super (lv := 3) (n := 1) (As := [.int v0]) hx hb hml hown hts ⟨Nat.le_refl _, Nat.le_refl _⟩ hK jc_X8_X9 q1062 q116 q1063 q1064 ⟨rfl, by decide +kernel⟩ (Nat.le_of_ble_eq_true rfl) (Nat.le_of_ble_eq_true rfl) hP hS ⟨Nat.zero_le _, Nat.zero_le _⟩ hl.1 rfl rfl (lv_room (Nat.le_of_ble_eq_true rfl)) dX9_init_2 (fun H locs hP hS => ?_)
  refine lv_aload_n hx hb dX9_init_5 rfl (lv_at hl 0 rfl) ?_
  refine lv_iload_n hx hb dX9_init_6 rfl (lv_at hl 2 rfl) ?_
  refine jc_put hx hb hts in_X9 tyX9_ok nmX9 hown hni hK hP hS (k := 1) (ci := 6) rfl (by decide) (hts _ q1066) rfl rfl rfl (tyX9_ok 1 (by decide)) ⟨rfl, rfl⟩ (Nat.le_of_ble_eq_true rfl) dX9_init_7 (fun H locs hP hS => ?_)
  refine lv_aload_n hx hb dX9_init_10 rfl (lv_at hl 0 rfl) ?_
  refine lv_aload_n hx hb dX9_init_11 rfl (lv_at hl 3 rfl) ?_
  refine jc_put hx hb hts in_X9 tyX9_ok nmX9 hown hni hK hP hS (k := 3) (ci := 6) rfl (by decide) (hts _ q1069) rfl rfl rfl (tyX9_ok 3 (by decide)) ⟨rfl, rfl⟩ (Nat.le_of_ble_eq_true rfl) dX9_init_12 (fun H locs hP hS => ?_)
  refine lv_aload_n hx hb dX9_init_15 rfl (lv_at hl 0 rfl) ?_
  refine lv_iload hx hb dX9_init_16 (lv_at hl 4 rfl) ?_
  refine jc_put hx hb hts in_X9 tyX9_ok nmX9 hown hni hK hP hS (k := 2) (ci := 6) rfl (by decide) (hts _ q1068) rfl rfl rfl (tyX9_ok 2 (by decide)) ⟨rfl, rfl⟩ (Nat.le_of_ble_eq_true rfl) dX9_init_18 (fun H locs hP hS => ?_)
  refine lv_aload_n hx hb dX9_init_21 rfl (lv_at hl 0 rfl) ?_
  refine lv_aloadN hx hb dX9_init_22 (lv_at hl 5 rfl) ?_
  refine jc_put hx hb hts in_X9 tyX9_ok nmX9 hown hni hK hP hS (k := 4) (ci := 6) rfl (by decide) (hts _ q1070) rfl rfl rfl (tyX9_ok 4 (by decide)) ⟨rfl, rfl⟩ (Nat.le_of_ble_eq_true rfl) dX9_init_24 (fun H locs hP hS => ?_)
  exact jc_ret hx hb hr hlk hK hP hS rfl dX9_init_27
theorem jc_X8_X10 {l : Launch} {D : va_G} {tys : List (ClassId × FieldType)} {a : Nat} {v0 : Int32} : jc_M l D tys yX8_init cX8_init 2 2 [.ref a, .int v0] a 7 [.int 0, .int 0, .int 0] [.int v0, .int 0, .int 0] := by
  refine jc_M_of (own := RX8) ⟨by decide, rfl, Nat.le_of_ble_eq_true rfl, rfl⟩ (fun hx hb hml hown hts hlk hr hni hK hP hS hl => ?_)
  refine lv_aload_n hx hb dX8_init_0 rfl (lv_at hl 0 rfl) ?_
  refine W.objInit hx hb hown (hts _ q1065) (hts _ q143) (hts _ q144) rfl (hl.1.trans hml.symm) rfl dX8_init_1 (Nat.le_of_ble_eq_true rfl) (Nat.le_of_ble_eq_true rfl) ?_
  refine lv_aload_n hx hb dX8_init_4 rfl (lv_at hl 0 rfl) ?_
  refine lv_iload_n hx hb dX8_init_5 rfl (lv_at hl 1 rfl) ?_
  refine jc_put hx hb hts in_X10 tyX10_ok nmX10 hown hni hK hP hS (k := 0) (ci := 7) rfl (by decide) (hts _ q1071) rfl rfl rfl (tyX10_ok 0 (by decide)) ⟨rfl, rfl⟩ (Nat.le_of_ble_eq_true rfl) dX8_init_6 (fun H locs hP hS => ?_)
  exact jc_ret hx hb hr hlk hK hP hS rfl dX8_init_9
theorem jc_X10_X10 {l : Launch} {D : va_G} {tys : List (ClassId × FieldType)} {a : Nat} {v0 : Int32} {v1 : Int32} {v2 : Int32} : jc_M l D tys yX10_init cX10_init 4 3 [.ref a, .int v0, .int v1, .int v2] a 7 [.int 0, .int 0, .int 0] [.int v0, .int v1, .int v2] := by
  refine jc_M_of (own := RX10) ⟨by decide, rfl, Nat.le_of_ble_eq_true rfl, rfl⟩ (fun hx hb hml hown hts hlk hr hni hK hP hS hl => ?_)
  refine lv_aload_n hx hb dX10_init_0 rfl (lv_at hl 0 rfl) ?_
  refine lv_iload_n hx hb dX10_init_1 rfl (lv_at hl 1 rfl) ?_
  refine jc_super (lv := 3) (n := 1) (As := [.int v0]) hx hb hml hown hts ⟨Nat.le_refl _, Nat.le_refl _⟩ hK jc_X8_X10 q1095 q116 q1063 q1064 ⟨rfl, by decide +kernel⟩ (Nat.le_of_ble_eq_true rfl) (Nat.le_of_ble_eq_true rfl) hP hS ⟨Nat.zero_le _, Nat.zero_le _⟩ hl.1 rfl rfl (lv_room (Nat.le_of_ble_eq_true rfl)) dX10_init_2 (fun H locs hP hS => ?_)
  refine lv_aload_n hx hb dX10_init_5 rfl (lv_at hl 0 rfl) ?_
  refine lv_iload_n hx hb dX10_init_6 rfl (lv_at hl 2 rfl) ?_
  refine jc_put hx hb hts in_X10 tyX10_ok nmX10 hown hni hK hP hS (k := 1) (ci := 7) rfl (by decide) (hts _ q1096) rfl rfl rfl (tyX10_ok 1 (by decide)) ⟨rfl, rfl⟩ (Nat.le_of_ble_eq_true rfl) dX10_init_7 (fun H locs hP hS => ?_)
  refine lv_aload_n hx hb dX10_init_10 rfl (lv_at hl 0 rfl) ?_
  refine lv_iload_n hx hb dX10_init_11 rfl (lv_at hl 3 rfl) ?_
  refine jc_put hx hb hts in_X10 tyX10_ok nmX10 hown hni hK hP hS (k := 2) (ci := 7) rfl (by decide) (hts _ q1098) rfl rfl rfl (tyX10_ok 2 (by decide)) ⟨rfl, rfl⟩ (Nat.le_of_ble_eq_true rfl) dX10_init_12 (fun H locs hP hS => ?_)
  exact jc_ret hx hb hr hlk hK hP hS rfl dX10_init_15
theorem jc_X8_X11 {l : Launch} {D : va_G} {tys : List (ClassId × FieldType)} {a : Nat} {v0 : Int32} : jc_M l D tys yX8_init cX8_init 2 2 [.ref a, .int v0] a 8 [.int 0, .int 0] [.int v0, .int 0] := by
  refine jc_M_of (own := RX8) ⟨by decide, rfl, Nat.le_of_ble_eq_true rfl, rfl⟩ (fun hx hb hml hown hts hlk hr hni hK hP hS hl => ?_)
  refine lv_aload_n hx hb dX8_init_0 rfl (lv_at hl 0 rfl) ?_
  refine W.objInit hx hb hown (hts _ q1065) (hts _ q143) (hts _ q144) rfl (hl.1.trans hml.symm) rfl dX8_init_1 (Nat.le_of_ble_eq_true rfl) (Nat.le_of_ble_eq_true rfl) ?_
  refine lv_aload_n hx hb dX8_init_4 rfl (lv_at hl 0 rfl) ?_
  refine lv_iload_n hx hb dX8_init_5 rfl (lv_at hl 1 rfl) ?_
  refine jc_put hx hb hts in_X11 tyX11_ok nmX11 hown hni hK hP hS (k := 0) (ci := 8) rfl (by decide) (hts _ q1071) rfl rfl rfl (tyX11_ok 0 (by decide)) ⟨rfl, rfl⟩ (Nat.le_of_ble_eq_true rfl) dX8_init_6 (fun H locs hP hS => ?_)
  exact jc_ret hx hb hr hlk hK hP hS rfl dX8_init_9
theorem jc_X11_X11 {l : Launch} {D : va_G} {tys : List (ClassId × FieldType)} {a : Nat} {v0 : Int32} {v1 : Int32} : jc_M l D tys yX11_init cX11_init 3 3 [.ref a, .int v0, .int v1] a 8 [.int 0, .int 0] [.int v0, .int v1] := by
  refine jc_M_of (own := RX11) ⟨by decide, rfl, Nat.le_of_ble_eq_true rfl, rfl⟩ (fun hx hb hml hown hts hlk hr hni hK hP hS hl => ?_)
  refine lv_aload_n hx hb dX11_init_0 rfl (lv_at hl 0 rfl) ?_
  refine lv_iload_n hx hb dX11_init_1 rfl (lv_at hl 1 rfl) ?_
  refine jc_super (lv := 3) (n := 1) (As := [.int v0]) hx hb hml hown hts ⟨Nat.le_refl _, Nat.le_refl _⟩ hK jc_X8_X11 q1111 q116 q1063 q1064 ⟨rfl, by decide +kernel⟩ (Nat.le_of_ble_eq_true rfl) (Nat.le_of_ble_eq_true rfl) hP hS ⟨Nat.zero_le _, Nat.zero_le _⟩ hl.1 rfl rfl (lv_room (Nat.le_of_ble_eq_true rfl)) dX11_init_2 (fun H locs hP hS => ?_)
  refine lv_aload_n hx hb dX11_init_5 rfl (lv_at hl 0 rfl) ?_
  refine lv_iload_n hx hb dX11_init_6 rfl (lv_at hl 2 rfl) ?_
  refine jc_put hx hb hts in_X11 tyX11_ok nmX11 hown hni hK hP hS (k := 1) (ci := 8) rfl (by decide) (hts _ q1112) rfl rfl rfl (tyX11_ok 1 (by decide)) ⟨rfl, rfl⟩ (Nat.le_of_ble_eq_true rfl) dX11_init_7 (fun H locs hP hS => ?_)
  exact jc_ret hx hb hr hlk hK hP hS rfl dX11_init_10
theorem jc_X8_X12 {l : Launch} {D : va_G} {tys : List (ClassId × FieldType)} {a : Nat} {v0 : Int32} : jc_M l D tys yX8_init cX8_init 2 2 [.ref a, .int v0] a 9 [.int 0, .null, .null, .int 0, .int 0] [.int v0, .null, .null, .int 0, .int 0] := by
  refine jc_M_of (own := RX8) ⟨by decide, rfl, Nat.le_of_ble_eq_true rfl, rfl⟩ (fun hx hb hml hown hts hlk hr hni hK hP hS hl => ?_)
  refine lv_aload_n hx hb dX8_init_0 rfl (lv_at hl 0 rfl) ?_
  refine W.objInit hx hb hown (hts _ q1065) (hts _ q143) (hts _ q144) rfl (hl.1.trans hml.symm) rfl dX8_init_1 (Nat.le_of_ble_eq_true rfl) (Nat.le_of_ble_eq_true rfl) ?_
  refine lv_aload_n hx hb dX8_init_4 rfl (lv_at hl 0 rfl) ?_
  refine lv_iload_n hx hb dX8_init_5 rfl (lv_at hl 1 rfl) ?_
  refine jc_put hx hb hts in_X12 tyX12_ok nmX12 hown hni hK hP hS (k := 0) (ci := 9) rfl (by decide) (hts _ q1071) rfl rfl rfl (tyX12_ok 0 (by decide)) ⟨rfl, rfl⟩ (Nat.le_of_ble_eq_true rfl) dX8_init_6 (fun H locs hP hS => ?_)
  exact jc_ret hx hb hr hlk hK hP hS rfl dX8_init_9
theorem jc_X12_X12 {l : Launch} {D : va_G} {tys : List (ClassId × FieldType)} {a : Nat} {v0 : Int32} {w1 : Nat} {v2 : Int32} {w3 : Nat} {v4 : Int32} : jc_M l D tys yX12_init cX12_init 6 3 [.ref a, .int v0, .ref w1, .int v2, .ref w3, .int v4] a 9 [.int 0, .null, .null, .int 0, .int 0] [.int v0, .ref w1, .ref w3, .int v2, .int v4] := by
  refine jc_M_of (own := RX12) ⟨by decide, rfl, Nat.le_of_ble_eq_true rfl, rfl⟩ (fun hx hb hml hown hts hlk hr hni hK hP hS hl => ?_)
  refine lv_aload_n hx hb dX12_init_0 rfl (lv_at hl 0 rfl) ?_
  refine lv_iload_n hx hb dX12_init_1 rfl (lv_at hl 1 rfl) ?_
  refine jc_super (lv := 3) (n := 1) (As := [.int v0]) hx hb hml hown hts ⟨Nat.le_refl _, Nat.le_refl _⟩ hK jc_X8_X12 q1126 q116 q1063 q1064 ⟨rfl, by decide +kernel⟩ (Nat.le_of_ble_eq_true rfl) (Nat.le_of_ble_eq_true rfl) hP hS ⟨Nat.zero_le _, Nat.zero_le _⟩ hl.1 rfl rfl (lv_room (Nat.le_of_ble_eq_true rfl)) dX12_init_2 (fun H locs hP hS => ?_)
  refine lv_aload_n hx hb dX12_init_5 rfl (lv_at hl 0 rfl) ?_
  refine lv_aload_n hx hb dX12_init_6 rfl (lv_at hl 2 rfl) ?_
  refine jc_put hx hb hts in_X12 tyX12_ok nmX12 hown hni hK hP hS (k := 1) (ci := 9) rfl (by decide) (hts _ q1127) rfl rfl rfl (tyX12_ok 1 (by decide)) ⟨rfl, rfl⟩ (Nat.le_of_ble_eq_true rfl) dX12_init_7 (fun H locs hP hS => ?_)
  refine lv_aload_n hx hb dX12_init_10 rfl (lv_at hl 0 rfl) ?_
  refine lv_iload_n hx hb dX12_init_11 rfl (lv_at hl 3 rfl) ?_
  refine jc_put hx hb hts in_X12 tyX12_ok nmX12 hown hni hK hP hS (k := 3) (ci := 9) rfl (by decide) (hts _ q1131) rfl rfl rfl (tyX12_ok 3 (by decide)) ⟨rfl, rfl⟩ (Nat.le_of_ble_eq_true rfl) dX12_init_12 (fun H locs hP hS => ?_)
  refine lv_aload_n hx hb dX12_init_15 rfl (lv_at hl 0 rfl) ?_
  refine lv_aload hx hb dX12_init_16 (lv_at hl 4 rfl) ?_
  refine jc_put hx hb hts in_X12 tyX12_ok nmX12 hown hni hK hP hS (k := 2) (ci := 9) rfl (by decide) (hts _ q1129) rfl rfl rfl (tyX12_ok 2 (by decide)) ⟨rfl, rfl⟩ (Nat.le_of_ble_eq_true rfl) dX12_init_18 (fun H locs hP hS => ?_)
  refine lv_aload_n hx hb dX12_init_21 rfl (lv_at hl 0 rfl) ?_
  refine lv_iload hx hb dX12_init_22 (lv_at hl 5 rfl) ?_
  refine jc_put hx hb hts in_X12 tyX12_ok nmX12 hown hni hK hP hS (k := 4) (ci := 9) rfl (by decide) (hts _ q1133) rfl rfl rfl (tyX12_ok 4 (by decide)) ⟨rfl, rfl⟩ (Nat.le_of_ble_eq_true rfl) dX12_init_24 (fun H locs hP hS => ?_)
  exact jc_ret hx hb hr hlk hK hP hS rfl dX12_init_27
theorem jc_X8_X13 {l : Launch} {D : va_G} {tys : List (ClassId × FieldType)} {a : Nat} {v0 : Int32} : jc_M l D tys yX8_init cX8_init 2 2 [.ref a, .int v0] a 10 [.int 0, .int 0, .int 0] [.int v0, .int 0, .int 0] := by
  refine jc_M_of (own := RX8) ⟨by decide, rfl, Nat.le_of_ble_eq_true rfl, rfl⟩ (fun hx hb hml hown hts hlk hr hni hK hP hS hl => ?_)
  refine lv_aload_n hx hb dX8_init_0 rfl (lv_at hl 0 rfl) ?_
  refine W.objInit hx hb hown (hts _ q1065) (hts _ q143) (hts _ q144) rfl (hl.1.trans hml.symm) rfl dX8_init_1 (Nat.le_of_ble_eq_true rfl) (Nat.le_of_ble_eq_true rfl) ?_
  refine lv_aload_n hx hb dX8_init_4 rfl (lv_at hl 0 rfl) ?_
  refine lv_iload_n hx hb dX8_init_5 rfl (lv_at hl 1 rfl) ?_
  refine jc_put hx hb hts in_X13 tyX13_ok nmX13 hown hni hK hP hS (k := 0) (ci := 10) rfl (by decide) (hts _ q1071) rfl rfl rfl (tyX13_ok 0 (by decide)) ⟨rfl, rfl⟩ (Nat.le_of_ble_eq_true rfl) dX8_init_6 (fun H locs hP hS => ?_)
  exact jc_ret hx hb hr hlk hK hP hS rfl dX8_init_9
theorem jc_X13_X13 {l : Launch} {D : va_G} {tys : List (ClassId × FieldType)} {a : Nat} {v0 : Int32} {v1 : Int32} {v2 : Int32} : jc_M l D tys yX13_init cX13_init 4 3 [.ref a, .int v0, .int v1, .int v2] a 10 [.int 0, .int 0, .int 0] [.int v0, .int v1, .int v2] := by
  refine jc_M_of (own := RX13) ⟨by decide, rfl, Nat.le_of_ble_eq_true rfl, rfl⟩ (fun hx hb hml hown hts hlk hr hni hK hP hS hl => ?_)
  refine lv_aload_n hx hb dX13_init_0 rfl (lv_at hl 0 rfl) ?_
  refine lv_iload_n hx hb dX13_init_1 rfl (lv_at hl 1 rfl) ?_
  refine jc_super (lv := 3) (n := 1) (As := [.int v0]) hx hb hml hown hts ⟨Nat.le_refl _, Nat.le_refl _⟩ hK jc_X8_X13 q1155 q116 q1063 q1064 ⟨rfl, by decide +kernel⟩ (Nat.le_of_ble_eq_true rfl) (Nat.le_of_ble_eq_true rfl) hP hS ⟨Nat.zero_le _, Nat.zero_le _⟩ hl.1 rfl rfl (lv_room (Nat.le_of_ble_eq_true rfl)) dX13_init_2 (fun H locs hP hS => ?_)
  refine lv_aload_n hx hb dX13_init_5 rfl (lv_at hl 0 rfl) ?_
  refine lv_iload_n hx hb dX13_init_6 rfl (lv_at hl 2 rfl) ?_
  refine jc_put hx hb hts in_X13 tyX13_ok nmX13 hown hni hK hP hS (k := 1) (ci := 10) rfl (by decide) (hts _ q1156) rfl rfl rfl (tyX13_ok 1 (by decide)) ⟨rfl, rfl⟩ (Nat.le_of_ble_eq_true rfl) dX13_init_7 (fun H locs hP hS => ?_)
  refine lv_aload_n hx hb dX13_init_10 rfl (lv_at hl 0 rfl) ?_
  refine lv_iload_n hx hb dX13_init_11 rfl (lv_at hl 3 rfl) ?_
  refine jc_put hx hb hts in_X13 tyX13_ok nmX13 hown hni hK hP hS (k := 2) (ci := 10) rfl (by decide) (hts _ q1157) rfl rfl rfl (tyX13_ok 2 (by decide)) ⟨rfl, rfl⟩ (Nat.le_of_ble_eq_true rfl) dX13_init_12 (fun H locs hP hS => ?_)
  exact jc_ret hx hb hr hlk hK hP hS rfl dX13_init_15
theorem jc_X8_X14 {l : Launch} {D : va_G} {tys : List (ClassId × FieldType)} {a : Nat} {v0 : Int32} : jc_M l D tys yX8_init cX8_init 2 2 [.ref a, .int v0] a 11 [.int 0, .int 0] [.int v0, .int 0] := by
  refine jc_M_of (own := RX8) ⟨by decide, rfl, Nat.le_of_ble_eq_true rfl, rfl⟩ (fun hx hb hml hown hts hlk hr hni hK hP hS hl => ?_)
  refine lv_aload_n hx hb dX8_init_0 rfl (lv_at hl 0 rfl) ?_
  refine W.objInit hx hb hown (hts _ q1065) (hts _ q143) (hts _ q144) rfl (hl.1.trans hml.symm) rfl dX8_init_1 (Nat.le_of_ble_eq_true rfl) (Nat.le_of_ble_eq_true rfl) ?_
  refine lv_aload_n hx hb dX8_init_4 rfl (lv_at hl 0 rfl) ?_
  refine lv_iload_n hx hb dX8_init_5 rfl (lv_at hl 1 rfl) ?_
  refine jc_put hx hb hts in_X14 tyX14_ok nmX14 hown hni hK hP hS (k := 0) (ci := 11) rfl (by decide) (hts _ q1071) rfl rfl rfl (tyX14_ok 0 (by decide)) ⟨rfl, rfl⟩ (Nat.le_of_ble_eq_true rfl) dX8_init_6 (fun H locs hP hS => ?_)
  exact jc_ret hx hb hr hlk hK hP hS rfl dX8_init_9
theorem jc_X14_X14 {l : Launch} {D : va_G} {tys : List (ClassId × FieldType)} {a : Nat} {v0 : Int32} {v1 : Int32} : jc_M l D tys yX14_init cX14_init 3 3 [.ref a, .int v0, .int v1] a 11 [.int 0, .int 0] [.int v0, .int v1] := by
  refine jc_M_of (own := RX14) ⟨by decide, rfl, Nat.le_of_ble_eq_true rfl, rfl⟩ (fun hx hb hml hown hts hlk hr hni hK hP hS hl => ?_)
  refine lv_aload_n hx hb dX14_init_0 rfl (lv_at hl 0 rfl) ?_
  refine lv_iload_n hx hb dX14_init_1 rfl (lv_at hl 1 rfl) ?_
  refine jc_super (lv := 3) (n := 1) (As := [.int v0]) hx hb hml hown hts ⟨Nat.le_refl _, Nat.le_refl _⟩ hK jc_X8_X14 q1169 q116 q1063 q1064 ⟨rfl, by decide +kernel⟩ (Nat.le_of_ble_eq_true rfl) (Nat.le_of_ble_eq_true rfl) hP hS ⟨Nat.zero_le _, Nat.zero_le _⟩ hl.1 rfl rfl (lv_room (Nat.le_of_ble_eq_true rfl)) dX14_init_2 (fun H locs hP hS => ?_)
  refine lv_aload_n hx hb dX14_init_5 rfl (lv_at hl 0 rfl) ?_
  refine lv_iload_n hx hb dX14_init_6 rfl (lv_at hl 2 rfl) ?_
  refine jc_put hx hb hts in_X14 tyX14_ok nmX14 hown hni hK hP hS (k := 1) (ci := 11) rfl (by decide) (hts _ q1170) rfl rfl rfl (tyX14_ok 1 (by decide)) ⟨rfl, rfl⟩ (Nat.le_of_ble_eq_true rfl) dX14_init_7 (fun H locs hP hS => ?_)
  exact jc_ret hx hb hr hlk hK hP hS rfl dX14_init_10
theorem jc_X8_X15 {l : Launch} {D : va_G} {tys : List (ClassId × FieldType)} {a : Nat} {v0 : Int32} : jc_M l D tys yX8_init cX8_init 2 2 [.ref a, .int v0] a 12 [.int 0, .int 0, .int 0] [.int v0, .int 0, .int 0] := by
  refine jc_M_of (own := RX8) ⟨by decide, rfl, Nat.le_of_ble_eq_true rfl, rfl⟩ (fun hx hb hml hown hts hlk hr hni hK hP hS hl => ?_)
  refine lv_aload_n hx hb dX8_init_0 rfl (lv_at hl 0 rfl) ?_
  refine W.objInit hx hb hown (hts _ q1065) (hts _ q143) (hts _ q144) rfl (hl.1.trans hml.symm) rfl dX8_init_1 (Nat.le_of_ble_eq_true rfl) (Nat.le_of_ble_eq_true rfl) ?_
  refine lv_aload_n hx hb dX8_init_4 rfl (lv_at hl 0 rfl) ?_
  refine lv_iload_n hx hb dX8_init_5 rfl (lv_at hl 1 rfl) ?_
  refine jc_put hx hb hts in_X15 tyX15_ok nmX15 hown hni hK hP hS (k := 0) (ci := 12) rfl (by decide) (hts _ q1071) rfl rfl rfl (tyX15_ok 0 (by decide)) ⟨rfl, rfl⟩ (Nat.le_of_ble_eq_true rfl) dX8_init_6 (fun H locs hP hS => ?_)
  exact jc_ret hx hb hr hlk hK hP hS rfl dX8_init_9
theorem jc_X13_X15 {l : Launch} {D : va_G} {tys : List (ClassId × FieldType)} {a : Nat} {v0 : Int32} {v1 : Int32} {v2 : Int32} : jc_M l D tys yX13_init cX13_init 4 3 [.ref a, .int v0, .int v1, .int v2] a 12 [.int 0, .int 0, .int 0] [.int v0, .int v1, .int v2] := by
  refine jc_M_of (own := RX13) ⟨by decide, rfl, Nat.le_of_ble_eq_true rfl, rfl⟩ (fun hx hb hml hown hts hlk hr hni hK hP hS hl => ?_)
  refine lv_aload_n hx hb dX13_init_0 rfl (lv_at hl 0 rfl) ?_
  refine lv_iload_n hx hb dX13_init_1 rfl (lv_at hl 1 rfl) ?_
  refine jc_super (lv := 3) (n := 1) (As := [.int v0]) hx hb hml hown hts ⟨Nat.le_refl _, Nat.le_refl _⟩ hK jc_X8_X15 q1155 q116 q1063 q1064 ⟨rfl, by decide +kernel⟩ (Nat.le_of_ble_eq_true rfl) (Nat.le_of_ble_eq_true rfl) hP hS ⟨Nat.zero_le _, Nat.zero_le _⟩ hl.1 rfl rfl (lv_room (Nat.le_of_ble_eq_true rfl)) dX13_init_2 (fun H locs hP hS => ?_)
  refine lv_aload_n hx hb dX13_init_5 rfl (lv_at hl 0 rfl) ?_
  refine lv_iload_n hx hb dX13_init_6 rfl (lv_at hl 2 rfl) ?_
  refine jc_put hx hb hts in_X15 tyX15_ok nmX15 hown hni hK hP hS (k := 1) (ci := 12) rfl (by decide) (hts _ q1156) rfl rfl rfl (tyX15_ok 1 (by decide)) ⟨rfl, rfl⟩ (Nat.le_of_ble_eq_true rfl) dX13_init_7 (fun H locs hP hS => ?_)
  refine lv_aload_n hx hb dX13_init_10 rfl (lv_at hl 0 rfl) ?_
  refine lv_iload_n hx hb dX13_init_11 rfl (lv_at hl 3 rfl) ?_
  refine jc_put hx hb hts in_X15 tyX15_ok nmX15 hown hni hK hP hS (k := 2) (ci := 12) rfl (by decide) (hts _ q1157) rfl rfl rfl (tyX15_ok 2 (by decide)) ⟨rfl, rfl⟩ (Nat.le_of_ble_eq_true rfl) dX13_init_12 (fun H locs hP hS => ?_)
  exact jc_ret hx hb hr hlk hK hP hS rfl dX13_init_15
theorem jc_X15_X15 {l : Launch} {D : va_G} {tys : List (ClassId × FieldType)} {a : Nat} {v0 : Int32} {v1 : Int32} {v2 : Int32} : jc_M l D tys yX15_init cX15_init 4 4 [.ref a, .int v0, .int v1, .int v2] a 12 [.int 0, .int 0, .int 0] [.int v0, .int v1, .int v2] := by
  refine jc_M_of (own := RX15) ⟨by decide, rfl, Nat.le_of_ble_eq_true rfl, rfl⟩ (fun hx hb hml hown hts hlk hr hni hK hP hS hl => ?_)
  refine lv_aload_n hx hb dX15_init_0 rfl (lv_at hl 0 rfl) ?_
  refine lv_iload_n hx hb dX15_init_1 rfl (lv_at hl 1 rfl) ?_
  refine lv_iload_n hx hb dX15_init_2 rfl (lv_at hl 2 rfl) ?_
  refine lv_iload_n hx hb dX15_init_3 rfl (lv_at hl 3 rfl) ?_
  refine jc_super (lv := 4) (n := 3) (As := [.int v0, .int v1, .int v2]) hx hb hml hown hts ⟨Nat.le_refl _, Nat.le_refl _⟩ hK jc_X13_X15 q1180 q121 q1153 q1154 ⟨rfl, by decide +kernel⟩ (Nat.le_of_ble_eq_true rfl) (Nat.le_of_ble_eq_true rfl) hP hS ⟨Nat.zero_le _, Nat.zero_le _⟩ hl.1 rfl rfl (lv_room (Nat.le_of_ble_eq_true rfl)) dX15_init_4 (fun H locs hP hS => ?_)
  exact jc_ret hx hb hr hlk hK hP hS rfl dX15_init_7
theorem jc_X8_X16 {l : Launch} {D : va_G} {tys : List (ClassId × FieldType)} {a : Nat} {v0 : Int32} : jc_M l D tys yX8_init cX8_init 2 2 [.ref a, .int v0] a 13 [.int 0] [.int v0] := by
  refine jc_M_of (own := RX8) ⟨by decide, rfl, Nat.le_of_ble_eq_true rfl, rfl⟩ (fun hx hb hml hown hts hlk hr hni hK hP hS hl => ?_)
  refine lv_aload_n hx hb dX8_init_0 rfl (lv_at hl 0 rfl) ?_
  refine W.objInit hx hb hown (hts _ q1065) (hts _ q143) (hts _ q144) rfl (hl.1.trans hml.symm) rfl dX8_init_1 (Nat.le_of_ble_eq_true rfl) (Nat.le_of_ble_eq_true rfl) ?_
  refine lv_aload_n hx hb dX8_init_4 rfl (lv_at hl 0 rfl) ?_
  refine lv_iload_n hx hb dX8_init_5 rfl (lv_at hl 1 rfl) ?_
  refine jc_put hx hb hts in_X16 tyX16_ok nmX16 hown hni hK hP hS (k := 0) (ci := 13) rfl (by decide) (hts _ q1071) rfl rfl rfl (tyX16_ok 0 (by decide)) ⟨rfl, rfl⟩ (Nat.le_of_ble_eq_true rfl) dX8_init_6 (fun H locs hP hS => ?_)
  exact jc_ret hx hb hr hlk hK hP hS rfl dX8_init_9
theorem jc_X16_X16 {l : Launch} {D : va_G} {tys : List (ClassId × FieldType)} {a : Nat} {v0 : Int32} : jc_M l D tys yX16_init cX16_init 2 3 [.ref a, .int v0] a 13 [.int 0] [.int v0] := by
  refine jc_M_of (own := RX16) ⟨by decide, rfl, Nat.le_of_ble_eq_true rfl, rfl⟩ (fun hx hb hml hown hts hlk hr hni hK hP hS hl => ?_)
  refine lv_aload_n hx hb dX16_init_0 rfl (lv_at hl 0 rfl) ?_
  refine lv_iload_n hx hb dX16_init_1 rfl (lv_at hl 1 rfl) ?_
  refine jc_super (lv := 3) (n := 1) (As := [.int v0]) hx hb hml hown hts ⟨Nat.le_refl _, Nat.le_refl _⟩ hK jc_X8_X16 q1189 q116 q1063 q1064 ⟨rfl, by decide +kernel⟩ (Nat.le_of_ble_eq_true rfl) (Nat.le_of_ble_eq_true rfl) hP hS ⟨Nat.zero_le _, Nat.zero_le _⟩ hl.1 rfl rfl (lv_room (Nat.le_of_ble_eq_true rfl)) dX16_init_2 (fun H locs hP hS => ?_)
  exact jc_ret hx hb hr hlk hK hP hS rfl dX16_init_5
theorem jc_X8_X17 {l : Launch} {D : va_G} {tys : List (ClassId × FieldType)} {a : Nat} {v0 : Int32} : jc_M l D tys yX8_init cX8_init 2 2 [.ref a, .int v0] a 14 [.int 0, .null] [.int v0, .null] := by
  refine jc_M_of (own := RX8) ⟨by decide, rfl, Nat.le_of_ble_eq_true rfl, rfl⟩ (fun hx hb hml hown hts hlk hr hni hK hP hS hl => ?_)
  refine lv_aload_n hx hb dX8_init_0 rfl (lv_at hl 0 rfl) ?_
  refine W.objInit hx hb hown (hts _ q1065) (hts _ q143) (hts _ q144) rfl (hl.1.trans hml.symm) rfl dX8_init_1 (Nat.le_of_ble_eq_true rfl) (Nat.le_of_ble_eq_true rfl) ?_
  refine lv_aload_n hx hb dX8_init_4 rfl (lv_at hl 0 rfl) ?_
  refine lv_iload_n hx hb dX8_init_5 rfl (lv_at hl 1 rfl) ?_
  refine jc_put hx hb hts in_X17 tyX17_ok nmX17 hown hni hK hP hS (k := 0) (ci := 14) rfl (by decide) (hts _ q1071) rfl rfl rfl (tyX17_ok 0 (by decide)) ⟨rfl, rfl⟩ (Nat.le_of_ble_eq_true rfl) dX8_init_6 (fun H locs hP hS => ?_)
  exact jc_ret hx hb hr hlk hK hP hS rfl dX8_init_9
theorem jc_X17_X17 {l : Launch} {D : va_G} {tys : List (ClassId × FieldType)} {a : Nat} {v0 : Int32} {w1 : Nat} : jc_M l D tys yX17_init cX17_init 3 3 [.ref a, .int v0, .ref w1] a 14 [.int 0, .null] [.int v0, .ref w1] := by
  refine jc_M_of (own := RX17) ⟨by decide, rfl, Nat.le_of_ble_eq_true rfl, rfl⟩ (fun hx hb hml hown hts hlk hr hni hK hP hS hl => ?_)
  refine lv_aload_n hx hb dX17_init_0 rfl (lv_at hl 0 rfl) ?_
  refine lv_iload_n hx hb dX17_init_1 rfl (lv_at hl 1 rfl) ?_
  refine jc_super (lv := 3) (n := 1) (As := [.int v0]) hx hb hml hown hts ⟨Nat.le_refl _, Nat.le_refl _⟩ hK jc_X8_X17 q1197 q116 q1063 q1064 ⟨rfl, by decide +kernel⟩ (Nat.le_of_ble_eq_true rfl) (Nat.le_of_ble_eq_true rfl) hP hS ⟨Nat.zero_le _, Nat.zero_le _⟩ hl.1 rfl rfl (lv_room (Nat.le_of_ble_eq_true rfl)) dX17_init_2 (fun H locs hP hS => ?_)
  refine lv_aload_n hx hb dX17_init_5 rfl (lv_at hl 0 rfl) ?_
  refine lv_aload_n hx hb dX17_init_6 rfl (lv_at hl 2 rfl) ?_
  refine jc_put hx hb hts in_X17 tyX17_ok nmX17 hown hni hK hP hS (k := 1) (ci := 14) rfl (by decide) (hts _ q1198) rfl rfl rfl (tyX17_ok 1 (by decide)) ⟨rfl, rfl⟩ (Nat.le_of_ble_eq_true rfl) dX17_init_7 (fun H locs hP hS => ?_)
  exact jc_ret hx hb hr hlk hK hP hS rfl dX17_init_10
theorem jc_X8_X18 {l : Launch} {D : va_G} {tys : List (ClassId × FieldType)} {a : Nat} {v0 : Int32} : jc_M l D tys yX8_init cX8_init 2 2 [.ref a, .int v0] a 15 [.int 0] [.int v0] := by
  refine jc_M_of (own := RX8) ⟨by decide, rfl, Nat.le_of_ble_eq_true rfl, rfl⟩ (fun hx hb hml hown hts hlk hr hni hK hP hS hl => ?_)
  refine lv_aload_n hx hb dX8_init_0 rfl (lv_at hl 0 rfl) ?_
  refine W.objInit hx hb hown (hts _ q1065) (hts _ q143) (hts _ q144) rfl (hl.1.trans hml.symm) rfl dX8_init_1 (Nat.le_of_ble_eq_true rfl) (Nat.le_of_ble_eq_true rfl) ?_
  refine lv_aload_n hx hb dX8_init_4 rfl (lv_at hl 0 rfl) ?_
  refine lv_iload_n hx hb dX8_init_5 rfl (lv_at hl 1 rfl) ?_
  refine jc_put hx hb hts in_X18 tyX18_ok nmX18 hown hni hK hP hS (k := 0) (ci := 15) rfl (by decide) (hts _ q1071) rfl rfl rfl (tyX18_ok 0 (by decide)) ⟨rfl, rfl⟩ (Nat.le_of_ble_eq_true rfl) dX8_init_6 (fun H locs hP hS => ?_)
  exact jc_ret hx hb hr hlk hK hP hS rfl dX8_init_9
theorem jc_X18_X18 {l : Launch} {D : va_G} {tys : List (ClassId × FieldType)} {a : Nat} {v0 : Int32} : jc_M l D tys yX18_init cX18_init 2 3 [.ref a, .int v0] a 15 [.int 0] [.int v0] := by
  refine jc_M_of (own := RX18) ⟨by decide, rfl, Nat.le_of_ble_eq_true rfl, rfl⟩ (fun hx hb hml hown hts hlk hr hni hK hP hS hl => ?_)
  refine lv_aload_n hx hb dX18_init_0 rfl (lv_at hl 0 rfl) ?_
  refine lv_iload_n hx hb dX18_init_1 rfl (lv_at hl 1 rfl) ?_
  refine jc_super (lv := 3) (n := 1) (As := [.int v0]) hx hb hml hown hts ⟨Nat.le_refl _, Nat.le_refl _⟩ hK jc_X8_X18 q1209 q116 q1063 q1064 ⟨rfl, by decide +kernel⟩ (Nat.le_of_ble_eq_true rfl) (Nat.le_of_ble_eq_true rfl) hP hS ⟨Nat.zero_le _, Nat.zero_le _⟩ hl.1 rfl rfl (lv_room (Nat.le_of_ble_eq_true rfl)) dX18_init_2 (fun H locs hP hS => ?_)
  exact jc_ret hx hb hr hlk hK hP hS rfl dX18_init_5

set_option maxRecDepth 100000
set_option maxHeartbeats 4000000
section
variable {p : Program} {l : Launch} {e : Env} {R : Room} {s : State} {m : MethodId} {args : Array Value} {below : List Frame} {meth : Method} {c : Code} {A : Nat → Prop} {D : va_G} {E : jf_E} {fo : Nat → Nat → Option Nat} {pl : va_W} {lv : Nat} {H : Heap} {locs : List Loc} {Q : State → Prop} {pc : Nat} {ls : Array Slot} {rest : List Value} {cc : ByteArray} {S : jf_S}
theorem jf_must_g_X1 : GoodIn lw_all (va_wsS RX1 148 yX1_must (ws_ yX1_must cX1_must 1 none)) := lw_S q1343 q1344 q102 q1345
theorem jf_must_d : yX1_must.cls ≠ "java/lang/invoke/MethodHandle" ∧ yX1_must.cls ≠ "java/lang/invoke/VarHandle" ∧ (parseMethodDescriptor yX1_must.desc).map (fun d => d.parameters.length) = some 1 := by decide +kernel
theorem jf_must_ok {out : (Unit ⊕ Nat) × jf_S} (hX : jf_OkX RX1 l p R s m args meth c A D E cX1_must 1 none 6 out) (F : Nat) (x0 : Int32) (S : jf_S) (h : jf_must F x0 S = some out) : jf_J p l e R s m args below meth c A D E fo pl 1 (jf_QXv below args s A D E fo pl out) 0 [(0, .int x0)] [] S := by
  intro H locs ls hP hS hl
  have hX0 := hX
  obtain ⟨⟨hx, hb, hml, hown, hts, hlk, hr, hlv, hV, het⟩, hfl, hcx⟩ := hX0
  unfold jf_must at h
  refine lv_iload_n hx hb dX1_must_0 rfl (lv_at hl 0 rfl) ?_
  refine lv_if_ne (tgt := 12) hx hb dX1_must_1 rfl (fun c1 => ?_) (fun c1 => ?_)
  · rw [if_neg c1] at h
    exact jf_xvret hx hb hr hlk hV hP hS h dX1_must_12
  · rw [if_pos c1] at h
    cases h
    exact jf_throwNew (k := 17) hfl hx hb hml hl.1 hown het hlk hlv (Nat.le_of_ble_eq_true rfl) hV hP hS (jx_thrW hts hV.2.1) (jx_chW_J7 hts hV.2.2.1) (jx_ctW_J7 hts) (hts _ q1212) (hts _ q127) rfl (by decide) rfl (hcx _ rfl) (Nat.le_of_ble_eq_true rfl) dX1_must_4 dX1_must_7 dX1_must_8 dX1_must_11
theorem jf_must_met {l : Launch} {D : va_G} {E : jf_E} {A : Nat → Prop} {fo : Nat → Nat → Option Nat} {pl : va_W} {F : Nat} (hfl : l.flags = flags0) {x0 : Int32} {S : jf_S} {out : (Unit ⊕ Nat) × jf_S} (h : jf_must F x0 S = some out) : jf_MXv l D E A fo pl yX1_must cX1_must 1 none 6 [.int x0] S out :=
  jf_MXv_of hfl (own := RX1) ⟨by decide, rfl, Nat.le_of_ble_eq_true rfl⟩ (fun hX => jf_must_ok hX F x0 S h)
theorem jf_mayBe_g_X1 : GoodIn lw_all (va_wsS RX1 177 yX1_mayBe (ws_ yX1_mayBe cX1_mayBe 1 none)) := lw_S q1392 q1393 q102 q1394
theorem jf_mayBe_d : yX1_mayBe.cls ≠ "java/lang/invoke/MethodHandle" ∧ yX1_mayBe.cls ≠ "java/lang/invoke/VarHandle" ∧ (parseMethodDescriptor yX1_mayBe.desc).map (fun d => d.parameters.length) = some 1 := by decide +kernel
theorem jf_mayBe_ok {out : (Unit ⊕ Nat) × jf_S} (hX : jf_OkX RX1 l p R s m args meth c A D E cX1_mayBe 1 none 6 out) (F : Nat) (x0 : Int32) (S : jf_S) (h : jf_mayBe F x0 S = some out) : jf_J p l e R s m args below meth c A D E fo pl 1 (jf_QXv below args s A D E fo pl out) 0 [(0, .int x0)] [] S := by
  intro H locs ls hP hS hl
  have hX0 := hX
  obtain ⟨⟨hx, hb, hml, hown, hts, hlk, hr, hlv, hV, het⟩, hfl, hcx⟩ := hX0
  unfold jf_mayBe at h
  refine lv_iload_n hx hb dX1_mayBe_0 rfl (lv_at hl 0 rfl) ?_
  refine lv_if_ne (tgt := 12) hx hb dX1_mayBe_1 rfl (fun c1 => ?_) (fun c1 => ?_)
  · rw [if_neg c1] at h
    exact jf_xvret hx hb hr hlk hV hP hS h dX1_mayBe_12
  · rw [if_pos c1] at h
    cases h
    exact jf_throwNew (k := 21) hfl hx hb hml hl.1 hown het hlk hlv (Nat.le_of_ble_eq_true rfl) hV hP hS (jx_thrW hts hV.2.1) (jx_chW_J12 hts hV.2.2.1) (jx_ctW_J12 hts) (hts _ q1395) (hts _ q132) rfl (by decide) rfl (hcx _ rfl) (Nat.le_of_ble_eq_true rfl) dX1_mayBe_4 dX1_mayBe_7 dX1_mayBe_8 dX1_mayBe_11
theorem jf_mayBe_met {l : Launch} {D : va_G} {E : jf_E} {A : Nat → Prop} {fo : Nat → Nat → Option Nat} {pl : va_W} {F : Nat} (hfl : l.flags = flags0) {x0 : Int32} {S : jf_S} {out : (Unit ⊕ Nat) × jf_S} (h : jf_mayBe F x0 S = some out) : jf_MXv l D E A fo pl yX1_mayBe cX1_mayBe 1 none 6 [.int x0] S out :=
  jf_MXv_of hfl (own := RX1) ⟨by decide, rfl, Nat.le_of_ble_eq_true rfl⟩ (fun hX => jf_mayBe_ok hX F x0 S h)
theorem jf_mustBe_g_X1 : GoodIn lw_all (va_wsS RX1 77 yX1_mustBe (ws_ yX1_mustBe cX1_mustBe 1 none)) := lw_S q1278 q1279 q102 q1280
theorem jf_mustBe_d : yX1_mustBe.cls ≠ "java/lang/invoke/MethodHandle" ∧ yX1_mustBe.cls ≠ "java/lang/invoke/VarHandle" ∧ (parseMethodDescriptor yX1_mustBe.desc).map (fun d => d.parameters.length) = some 1 := by decide +kernel
theorem jf_mustBe_ok {out : (Unit ⊕ Nat) × jf_S} (hX : jf_OkX RX1 l p R s m args meth c A D E cX1_mustBe 1 none 6 out) (F : Nat) (x0 : Int32) (S : jf_S) (h : jf_mustBe F x0 S = some out) : jf_J p l e R s m args below meth c A D E fo pl 1 (jf_QXv below args s A D E fo pl out) 0 [(0, .int x0)] [] S := by
  intro H locs ls hP hS hl
  have hX0 := hX
  obtain ⟨⟨hx, hb, hml, hown, hts, hlk, hr, hlv, hV, het⟩, hfl, hcx⟩ := hX0
  unfold jf_mustBe at h
  refine lv_iload_n hx hb dX1_mustBe_0 rfl (lv_at hl 0 rfl) ?_
  refine lv_if_ne (tgt := 12) hx hb dX1_mustBe_1 rfl (fun c1 => ?_) (fun c1 => ?_)
  · rw [if_neg c1] at h
    exact jf_xvret hx hb hr hlk hV hP hS h dX1_mustBe_12
  · rw [if_pos c1] at h
    cases h
    exact jf_throwNew (k := 18) hfl hx hb hml hl.1 hown het hlk hlv (Nat.le_of_ble_eq_true rfl) hV hP hS (jx_thrW hts hV.2.1) (jx_chW_J8 hts hV.2.2.1) (jx_ctW_J8 hts) (hts _ q1281) (hts _ q128) rfl (by decide) rfl (hcx _ rfl) (Nat.le_of_ble_eq_true rfl) dX1_mustBe_4 dX1_mustBe_7 dX1_mustBe_8 dX1_mustBe_11
theorem jf_mustBe_met {l : Launch} {D : va_G} {E : jf_E} {A : Nat → Prop} {fo : Nat → Nat → Option Nat} {pl : va_W} {F : Nat} (hfl : l.flags = flags0) {x0 : Int32} {S : jf_S} {out : (Unit ⊕ Nat) × jf_S} (h : jf_mustBe F x0 S = some out) : jf_MXv l D E A fo pl yX1_mustBe cX1_mustBe 1 none 6 [.int x0] S out :=
  jf_MXv_of hfl (own := RX1) ⟨by decide, rfl, Nat.le_of_ble_eq_true rfl⟩ (fun hX => jf_mustBe_ok hX F x0 S h)
theorem jf_thereIs_g_X1 : GoodIn lw_all (va_wsS RX1 189 yX1_thereIs (ws_ yX1_thereIs cX1_thereIs 1 none)) := lw_S q1417 q1418 q102 q1419
theorem jf_thereIs_d : yX1_thereIs.cls ≠ "java/lang/invoke/MethodHandle" ∧ yX1_thereIs.cls ≠ "java/lang/invoke/VarHandle" ∧ (parseMethodDescriptor yX1_thereIs.desc).map (fun d => d.parameters.length) = some 1 := by decide +kernel
theorem jf_thereIs_ok {out : (Unit ⊕ Nat) × jf_S} (hX : jf_OkX RX1 l p R s m args meth c A D E cX1_thereIs 1 none 6 out) (F : Nat) (x0 : Int32) (S : jf_S) (h : jf_thereIs F x0 S = some out) : jf_J p l e R s m args below meth c A D E fo pl 1 (jf_QXv below args s A D E fo pl out) 0 [(0, .int x0)] [] S := by
  intro H locs ls hP hS hl
  have hX0 := hX
  obtain ⟨⟨hx, hb, hml, hown, hts, hlk, hr, hlv, hV, het⟩, hfl, hcx⟩ := hX0
  unfold jf_thereIs at h
  refine lv_iload_n hx hb dX1_thereIs_0 rfl (lv_at hl 0 rfl) ?_
  refine lv_if_ne (tgt := 12) hx hb dX1_thereIs_1 rfl (fun c1 => ?_) (fun c1 => ?_)
  · rw [if_neg c1] at h
    exact jf_xvret hx hb hr hlk hV hP hS h dX1_thereIs_12
  · rw [if_pos c1] at h
    cases h
    exact jf_throwNew (k := 19) hfl hx hb hml hl.1 hown het hlk hlv (Nat.le_of_ble_eq_true rfl) hV hP hS (jx_thrW hts hV.2.1) (jx_chW_J10 hts hV.2.2.1) (jx_ctW_J10 hts) (hts _ q1298) (hts _ q130) rfl (by decide) rfl (hcx _ rfl) (Nat.le_of_ble_eq_true rfl) dX1_thereIs_4 dX1_thereIs_7 dX1_thereIs_8 dX1_thereIs_11
theorem jf_thereIs_met {l : Launch} {D : va_G} {E : jf_E} {A : Nat → Prop} {fo : Nat → Nat → Option Nat} {pl : va_W} {F : Nat} (hfl : l.flags = flags0) {x0 : Int32} {S : jf_S} {out : (Unit ⊕ Nat) × jf_S} (h : jf_thereIs F x0 S = some out) : jf_MXv l D E A fo pl yX1_thereIs cX1_thereIs 1 none 6 [.int x0] S out :=
  jf_MXv_of hfl (own := RX1) ⟨by decide, rfl, Nat.le_of_ble_eq_true rfl⟩ (fun hX => jf_thereIs_ok hX F x0 S h)
theorem jf_isCell_g_X1 : GoodIn lw_all (va_wsS RX1 165 yX1_isCell (ws_ yX1_isCell cX1_isCell 2 none)) := lw_S q1374 q1375 q102 q1376
theorem jf_isCell_d : yX1_isCell.cls ≠ "java/lang/invoke/MethodHandle" ∧ yX1_isCell.cls ≠ "java/lang/invoke/VarHandle" ∧ (parseMethodDescriptor yX1_isCell.desc).map (fun d => d.parameters.length) = some 2 := by decide +kernel
theorem jf_isCell_ok {out : (Unit ⊕ Nat) × jf_S} (hX : jf_OkX RX1 l p R s m args meth c A D E cX1_isCell 2 none 7 out) (F : Nat) (x0 : Int32) (x1 : Int32) (S : jf_S) (h : jf_isCell F x0 x1 S = some out) : jf_J p l e R s m args below meth c A D E fo pl 2 (jf_QXv below args s A D E fo pl out) 0 [(0, .int x0), (1, .int x1)] [] S := by
  intro H locs ls hP hS hl
  have hX0 := hX
  obtain ⟨⟨hx, hb, hml, hown, hts, hlk, hr, hlv, hV, het⟩, hfl, hcx⟩ := hX0
  unfold jf_isCell at h
  refine lv_iload_n hx hb dX1_isCell_0 rfl (lv_at hl 0 rfl) ?_
  refine lv_iconst hx hb dX1_isCell_1 jx_ki0 ?_
  refine lv_iload_n hx hb dX1_isCell_2 rfl (lv_at hl 1 rfl) ?_
  refine lv_iconst hx hb dX1_isCell_3 jx_ki1 ?_
  refine lv_isub hx hb dX1_isCell_4 ?_
  obtain ⟨q1, eq1, h⟩ := jx_bi_some h
  refine jx_callSi hx hb hml hown hts (jf_isIn_met eq1) jf_isIn_g_X1 jf_isIn_d (As := [.int x0, .int (nI 0), .int (x1 - (nI 1))]) (⟨Nat.le_trans (Nat.le_of_ble_eq_true rfl) hlv.1, Nat.le_trans (Nat.le_of_ble_eq_true rfl) hlv.2⟩) hl.1 rfl rfl (lv_room (Nat.le_of_ble_eq_true rfl)) dX1_isCell_5 ⟨Nat.zero_le _, Nat.zero_le _⟩ ?_
  refine (jx_xb_some h).elim (fun gv2 => ?_) (fun gv2 => ?_)
  · obtain ⟨v2, S3, ev2, h⟩ := gv2
    refine jf_callVS (out := S3) hx hb hml hown hts hlv hV (jf_mustBe_met hfl ev2) jf_mustBe_g_X1 jf_mustBe_d (As := [.int q1]) (Nat.le_of_ble_eq_true rfl) (Nat.le_of_ble_eq_true rfl) hP hS hl.1 rfl rfl (lv_room (Nat.le_of_ble_eq_true rfl)) dX1_isCell_8 (fun H locs hP hS => ?_)
    exact jf_xvret hx hb hr hlk hV hP hS h dX1_isCell_11
  · obtain ⟨v2, S3, ev2, ho⟩ := gv2
    subst ho
    exact jf_outS (S1 := S3) (k := v2) hx hb hml hown hts hlv hV het hlk (jf_mustBe_met hfl ev2) jf_mustBe_g_X1 jf_mustBe_d (As := [.int q1]) (Nat.le_of_ble_eq_true rfl) (Nat.le_of_ble_eq_true rfl) (hcx _ rfl) hP hS hl.1 rfl rfl (lv_room (Nat.le_of_ble_eq_true rfl)) dX1_isCell_8
theorem jf_isCell_met {l : Launch} {D : va_G} {E : jf_E} {A : Nat → Prop} {fo : Nat → Nat → Option Nat} {pl : va_W} {F : Nat} (hfl : l.flags = flags0) {x0 : Int32} {x1 : Int32} {S : jf_S} {out : (Unit ⊕ Nat) × jf_S} (h : jf_isCell F x0 x1 S = some out) : jf_MXv l D E A fo pl yX1_isCell cX1_isCell 2 none 7 [.int x0, .int x1] S out :=
  jf_MXv_of hfl (own := RX1) ⟨by decide, rfl, Nat.le_of_ble_eq_true rfl⟩ (fun hX => jf_isCell_ok hX F x0 x1 S h)
theorem jf_orderAt_g_X1 : GoodIn lw_all (wsV RX1 85 RX1 yX1_orderAt (ws_ yX1_orderAt cX1_orderAt 2 (some (.object "JumpFence$Order")))) := lw_V q1274 q1276 qs27 q102 q1277
theorem jf_orderAt_d : yX1_orderAt.cls = RX1 ∧ yX1_orderAt.cls ≠ "java/lang/invoke/MethodHandle" ∧ yX1_orderAt.cls ≠ "java/lang/invoke/VarHandle" ∧ (parseMethodDescriptor yX1_orderAt.desc).map (fun d => d.parameters.length) = some 1 := by decide +kernel
theorem jf_orderAt_ok {out : (jo_R ⊕ Nat) × jf_S} (hX : jf_OkX RX1 l p R s m args meth c A D E cX1_orderAt 2 (some (.object "JumpFence$Order")) 7 out) (F : Nat) (x1 : Int32) (S : jf_S) (h : jf_orderAt F x1 S = some out) : jf_J p l e R s m args below meth c A D E fo pl 2 (jf_QXo below args s A D E fo pl out) 0 [(0, .ref (E.1 0)), (1, .int x1)] [] S := by
  intro H locs ls hP hS hl
  have hX0 := hX
  obtain ⟨⟨hx, hb, hml, hown, hts, hlk, hr, hlv, hV, het⟩, hfl, hcx⟩ := hX0
  unfold jf_orderAt at h
  refine lv_iload_n hx hb dX1_orderAt_0 rfl (lv_at hl 1 rfl) ?_
  refine lv_iconst hx hb dX1_orderAt_1 jx_ki0 ?_
  refine lv_aload_n hx hb dX1_orderAt_2 rfl (lv_at hl 0 rfl) ?_
  refine jf_get hx hb hts in_X1 hown hV hP (ci := 1) (k := 1) jf_o0 rfl (by decide) (hts _ q455) rfl rfl dX1_orderAt_3 ?_
  refine jf_getN hx hb hts in_X4 hown hV hP (ci := 3) (k := 13) (jf_oP (Or.inl rfl)) rfl (by decide) (jf_l_X1_70 hV.2.2.1) rfl rfl dX1_orderAt_6 ?_
  refine lv_iconst hx hb dX1_orderAt_9 jx_ki1 ?_
  refine lv_isub hx hb dX1_orderAt_10 ?_
  obtain ⟨q1, eq1, h⟩ := jx_bi_some h
  refine jx_callSi hx hb hml hown hts (jf_isIn_met eq1) jf_isIn_g_X1 jf_isIn_d (As := [.int x1, .int (nI 0), .int ((S.1 3 13) - (nI 1))]) (⟨Nat.le_trans (Nat.le_of_ble_eq_true rfl) hlv.1, Nat.le_trans (Nat.le_of_ble_eq_true rfl) hlv.2⟩) hl.1 rfl rfl (lv_room (Nat.le_of_ble_eq_true rfl)) dX1_orderAt_11 ⟨Nat.zero_le _, Nat.zero_le _⟩ ?_
  refine (jx_xb_some h).elim (fun gv2 => ?_) (fun gv2 => ?_)
  · obtain ⟨v2, S3, ev2, h⟩ := gv2
    refine jf_callVS (out := S3) hx hb hml hown hts hlv hV (jf_mustBe_met hfl ev2) jf_mustBe_g_X1 jf_mustBe_d (As := [.int q1]) (Nat.le_of_ble_eq_true rfl) (Nat.le_of_ble_eq_true rfl) hP hS hl.1 rfl rfl (lv_room (Nat.le_of_ble_eq_true rfl)) dX1_orderAt_14 (fun H locs hP hS => ?_)
    refine lv_aload_n hx hb dX1_orderAt_17 rfl (lv_at hl 0 rfl) ?_
    refine jf_get hx hb hts in_X1 hown hV hP (ci := 1) (k := 1) jf_o0 rfl (by decide) (hts _ q455) rfl rfl dX1_orderAt_18 ?_
    refine jf_getN hx hb hts in_X4 hown hV hP (ci := 3) (k := 0) (jf_oP (Or.inl rfl)) rfl (by decide) (jf_l_X1_81 hV.2.2.1) rfl rfl dX1_orderAt_21 ?_
    refine lv_iload_n hx hb dX1_orderAt_24 rfl (lv_at hl 1 rfl) ?_
    obtain ⟨j4, ej4, bj4, h⟩ := jx_ga_some h
    obtain ⟨r5, er5, h⟩ := jx_bi_some h
    refine jf_qald hx hb hV hP (jf_aP0 (Or.inl rfl)) ej4 bj4 er5 dX1_orderAt_25 (fun r5a r5h => ?_)
    exact jf_xoret hx hb hr hlk hV hP hS r5h h dX1_orderAt_26
  · obtain ⟨v2, S3, ev2, ho⟩ := gv2
    subst ho
    exact jf_outS (S1 := S3) (k := v2) hx hb hml hown hts hlv hV het hlk (jf_mustBe_met hfl ev2) jf_mustBe_g_X1 jf_mustBe_d (As := [.int q1]) (Nat.le_of_ble_eq_true rfl) (Nat.le_of_ble_eq_true rfl) (hcx _ rfl) hP hS hl.1 rfl rfl (lv_room (Nat.le_of_ble_eq_true rfl)) dX1_orderAt_14
theorem jf_orderAt_met {l : Launch} {D : va_G} {E : jf_E} {A : Nat → Prop} {fo : Nat → Nat → Option Nat} {pl : va_W} {F : Nat} (hfl : l.flags = flags0) {x1 : Int32} {S : jf_S} {out : (jo_R ⊕ Nat) × jf_S} (h : jf_orderAt F x1 S = some out) : jf_MXo l D E A fo pl yX1_orderAt cX1_orderAt 2 (some (.object "JumpFence$Order")) 7 [.ref (E.1 0), .int x1] S out :=
  jf_MXo_of hfl (own := RX1) ⟨by decide, rfl, Nat.le_of_ble_eq_true rfl⟩ (fun hX => jf_orderAt_ok hX F x1 S h)
theorem jf_isJump_g_X1 : GoodIn lw_all (wsV RX1 146 RX1 yX1_isJump (ws_ yX1_isJump cX1_isJump 3 none)) := lw_V q1334 q1336 qs28 q102 q1337
theorem jf_isJump_d : yX1_isJump.cls = RX1 ∧ yX1_isJump.cls ≠ "java/lang/invoke/MethodHandle" ∧ yX1_isJump.cls ≠ "java/lang/invoke/VarHandle" ∧ (parseMethodDescriptor yX1_isJump.desc).map (fun d => d.parameters.length) = some 1 := by decide +kernel
theorem jf_isJump_ok {out : (Unit ⊕ Nat) × jf_S} (hX : jf_OkX RX1 l p R s m args meth c A D E cX1_isJump 3 none 8 out) (F : Nat) (x1 : Int32) (S : jf_S) (h : jf_isJump F x1 S = some out) : jf_J p l e R s m args below meth c A D E fo pl 3 (jf_QXv below args s A D E fo pl out) 0 [(0, .ref (E.1 0)), (1, .int x1)] [] S := by
  intro H locs ls hP hS hl
  have hX0 := hX
  obtain ⟨⟨hx, hb, hml, hown, hts, hlk, hr, hlv, hV, het⟩, hfl, hcx⟩ := hX0
  unfold jf_isJump at h
  refine lv_aload_n hx hb dX1_isJump_0 rfl (lv_at hl 0 rfl) ?_
  refine lv_iload_n hx hb dX1_isJump_1 rfl (lv_at hl 1 rfl) ?_
  refine (jx_xb_some h).elim (fun gv1 => ?_) (fun gv1 => ?_)
  · obtain ⟨v1, S2, ev1, h⟩ := gv1
    refine jf_callO (ci := 1) (out := (v1, S2)) hx hb hml hown hts hlv hV (jf_orderAt_met hfl ev1) jf_orderAt_g_X1 jf_orderAt_d (As := [.int x1]) (Nat.le_of_ble_eq_true rfl) (Nat.le_of_ble_eq_true rfl) hP hS jf_o0 rfl hl.1 rfl rfl (lv_room (Nat.le_of_ble_eq_true rfl)) dX1_isJump_2 (fun v1a H locs v1h hP hS => ?_)
    refine lv_astore_n (lv' := [(2, .ref v1a), (0, .ref (E.1 0)), (1, .int x1)]) hx hb dX1_isJump_5 rfl hl (Nat.le_of_ble_eq_true rfl) rfl (fun ls hl => ?_)
    refine lv_aload_n hx hb dX1_isJump_6 rfl (lv_at hl 0 rfl) ?_
    obtain ⟨q3, eq3, h⟩ := jx_bi_some h
    refine jv_isJump_X1 hx hb hml hown hts hlv hV v1h eq3 (Nat.le_of_ble_eq_true rfl) hP hS hl.1 rfl rfl (lv_room (Nat.le_of_ble_eq_true rfl)) dX1_isJump_7 (fun H locs hP hS => ?_)
    refine lv_if_ne (tgt := 21) hx hb dX1_isJump_10 rfl (fun c4 => ?_) (fun c4 => ?_)
    · rw [if_neg c4] at h
      exact jf_xvret hx hb hr hlk hV hP hS h dX1_isJump_21
    · rw [if_pos c4] at h
      cases h
      exact jf_throwNew (k := 20) hfl hx hb hml hl.1 hown het hlk hlv (Nat.le_of_ble_eq_true rfl) hV hP hS (jx_thrW hts hV.2.1) (jx_chW_J11 hts hV.2.2.1) (jx_ctW_J11 hts) (hts _ q1338) (hts _ q131) rfl (by decide) rfl (hcx _ rfl) (Nat.le_of_ble_eq_true rfl) dX1_isJump_13 dX1_isJump_16 dX1_isJump_17 dX1_isJump_20
  · obtain ⟨v1, S2, ev1, ho⟩ := gv1
    subst ho
    exact jf_outV (ci := 1) (S1 := S2) (k := v1) hx hb hml hown hts hlv hV het hlk (jf_orderAt_met hfl ev1) jf_orderAt_g_X1 jf_orderAt_d (As := [.int x1]) (Nat.le_of_ble_eq_true rfl) (Nat.le_of_ble_eq_true rfl) (hcx _ rfl) hP hS jf_o0 rfl hl.1 rfl rfl (lv_room (Nat.le_of_ble_eq_true rfl)) dX1_isJump_2
theorem jf_isJump_met {l : Launch} {D : va_G} {E : jf_E} {A : Nat → Prop} {fo : Nat → Nat → Option Nat} {pl : va_W} {F : Nat} (hfl : l.flags = flags0) {x1 : Int32} {S : jf_S} {out : (Unit ⊕ Nat) × jf_S} (h : jf_isJump F x1 S = some out) : jf_MXv l D E A fo pl yX1_isJump cX1_isJump 3 none 8 [.ref (E.1 0), .int x1] S out :=
  jf_MXv_of hfl (own := RX1) ⟨by decide, rfl, Nat.le_of_ble_eq_true rfl⟩ (fun hX => jf_isJump_ok hX F x1 S h)
theorem jf_isPower_g_X1 : GoodIn lw_all (wsV RX1 318 RX1 yX1_isPower (ws_ yX1_isPower cX1_isPower 2 none)) := lw_V q1449 q1451 qs29 q102 q1452
theorem jf_isPower_d : yX1_isPower.cls = RX1 ∧ yX1_isPower.cls ≠ "java/lang/invoke/MethodHandle" ∧ yX1_isPower.cls ≠ "java/lang/invoke/VarHandle" ∧ (parseMethodDescriptor yX1_isPower.desc).map (fun d => d.parameters.length) = some 1 := by decide +kernel
theorem jf_isPower_ok {out : (Unit ⊕ Nat) × jf_S} (hX : jf_OkX RX1 l p R s m args meth c A D E cX1_isPower 2 none 7 out) (F : Nat) (x1 : Int32) (S : jf_S) (h : jf_isPower F x1 S = some out) : jf_J p l e R s m args below meth c A D E fo pl 2 (jf_QXv below args s A D E fo pl out) 0 [(0, .ref (E.1 0)), (1, .int x1)] [] S := by
  intro H locs ls hP hS hl
  have hX0 := hX
  obtain ⟨⟨hx, hb, hml, hown, hts, hlk, hr, hlv, hV, het⟩, hfl, hcx⟩ := hX0
  unfold jf_isPower at h
  refine lv_iload_n hx hb dX1_isPower_0 rfl (lv_at hl 1 rfl) ?_
  refine lv_iconst hx hb dX1_isPower_1 jx_ki0 ?_
  refine lv_aload_n hx hb dX1_isPower_2 rfl (lv_at hl 0 rfl) ?_
  refine jf_get hx hb hts in_X1 hown hV hP (ci := 1) (k := 1) jf_o0 rfl (by decide) (hts _ q455) rfl rfl dX1_isPower_3 ?_
  refine jf_getN hx hb hts in_X4 hown hV hP (ci := 3) (k := 14) (jf_oP (Or.inl rfl)) rfl (by decide) (jf_l_X1_98 hV.2.2.1) rfl rfl dX1_isPower_6 ?_
  refine lv_iconst hx hb dX1_isPower_9 jx_ki1 ?_
  refine lv_isub hx hb dX1_isPower_10 ?_
  obtain ⟨q1, eq1, h⟩ := jx_bi_some h
  refine jx_callSi hx hb hml hown hts (jf_isIn_met eq1) jf_isIn_g_X1 jf_isIn_d (As := [.int x1, .int (nI 0), .int ((S.1 3 14) - (nI 1))]) (⟨Nat.le_trans (Nat.le_of_ble_eq_true rfl) hlv.1, Nat.le_trans (Nat.le_of_ble_eq_true rfl) hlv.2⟩) hl.1 rfl rfl (lv_room (Nat.le_of_ble_eq_true rfl)) dX1_isPower_11 ⟨Nat.zero_le _, Nat.zero_le _⟩ ?_
  refine (jx_xb_some h).elim (fun gv2 => ?_) (fun gv2 => ?_)
  · obtain ⟨v2, S3, ev2, h⟩ := gv2
    refine jf_callVS (out := S3) hx hb hml hown hts hlv hV (jf_mustBe_met hfl ev2) jf_mustBe_g_X1 jf_mustBe_d (As := [.int q1]) (Nat.le_of_ble_eq_true rfl) (Nat.le_of_ble_eq_true rfl) hP hS hl.1 rfl rfl (lv_room (Nat.le_of_ble_eq_true rfl)) dX1_isPower_14 (fun H locs hP hS => ?_)
    exact jf_xvret hx hb hr hlk hV hP hS h dX1_isPower_17
  · obtain ⟨v2, S3, ev2, ho⟩ := gv2
    subst ho
    exact jf_outS (S1 := S3) (k := v2) hx hb hml hown hts hlv hV het hlk (jf_mustBe_met hfl ev2) jf_mustBe_g_X1 jf_mustBe_d (As := [.int q1]) (Nat.le_of_ble_eq_true rfl) (Nat.le_of_ble_eq_true rfl) (hcx _ rfl) hP hS hl.1 rfl rfl (lv_room (Nat.le_of_ble_eq_true rfl)) dX1_isPower_14
theorem jf_isPower_met {l : Launch} {D : va_G} {E : jf_E} {A : Nat → Prop} {fo : Nat → Nat → Option Nat} {pl : va_W} {F : Nat} (hfl : l.flags = flags0) {x1 : Int32} {S : jf_S} {out : (Unit ⊕ Nat) × jf_S} (h : jf_isPower F x1 S = some out) : jf_MXv l D E A fo pl yX1_isPower cX1_isPower 2 none 7 [.ref (E.1 0), .int x1] S out :=
  jf_MXv_of hfl (own := RX1) ⟨by decide, rfl, Nat.le_of_ble_eq_true rfl⟩ (fun hX => jf_isPower_ok hX F x1 S h)
theorem jf_isHarm_g_X1 : GoodIn lw_all (wsV RX1 321 RX1 yX1_isHarm (ws_ yX1_isHarm cX1_isHarm 2 none)) := lw_V q1453 q1455 qs30 q102 q1456
theorem jf_isHarm_d : yX1_isHarm.cls = RX1 ∧ yX1_isHarm.cls ≠ "java/lang/invoke/MethodHandle" ∧ yX1_isHarm.cls ≠ "java/lang/invoke/VarHandle" ∧ (parseMethodDescriptor yX1_isHarm.desc).map (fun d => d.parameters.length) = some 1 := by decide +kernel
theorem jf_isHarm_ok {out : (Unit ⊕ Nat) × jf_S} (hX : jf_OkX RX1 l p R s m args meth c A D E cX1_isHarm 2 none 7 out) (F : Nat) (x1 : Int32) (S : jf_S) (h : jf_isHarm F x1 S = some out) : jf_J p l e R s m args below meth c A D E fo pl 2 (jf_QXv below args s A D E fo pl out) 0 [(0, .ref (E.1 0)), (1, .int x1)] [] S := by
  intro H locs ls hP hS hl
  have hX0 := hX
  obtain ⟨⟨hx, hb, hml, hown, hts, hlk, hr, hlv, hV, het⟩, hfl, hcx⟩ := hX0
  unfold jf_isHarm at h
  refine lv_iload_n hx hb dX1_isHarm_0 rfl (lv_at hl 1 rfl) ?_
  refine lv_iconst hx hb dX1_isHarm_1 jx_ki0 ?_
  refine lv_aload_n hx hb dX1_isHarm_2 rfl (lv_at hl 0 rfl) ?_
  refine jf_get hx hb hts in_X1 hown hV hP (ci := 1) (k := 1) jf_o0 rfl (by decide) (hts _ q455) rfl rfl dX1_isHarm_3 ?_
  refine jf_getN hx hb hts in_X4 hown hV hP (ci := 3) (k := 15) (jf_oP (Or.inl rfl)) rfl (by decide) (jf_l_X1_101 hV.2.2.1) rfl rfl dX1_isHarm_6 ?_
  refine lv_iconst hx hb dX1_isHarm_9 jx_ki1 ?_
  refine lv_isub hx hb dX1_isHarm_10 ?_
  obtain ⟨q1, eq1, h⟩ := jx_bi_some h
  refine jx_callSi hx hb hml hown hts (jf_isIn_met eq1) jf_isIn_g_X1 jf_isIn_d (As := [.int x1, .int (nI 0), .int ((S.1 3 15) - (nI 1))]) (⟨Nat.le_trans (Nat.le_of_ble_eq_true rfl) hlv.1, Nat.le_trans (Nat.le_of_ble_eq_true rfl) hlv.2⟩) hl.1 rfl rfl (lv_room (Nat.le_of_ble_eq_true rfl)) dX1_isHarm_11 ⟨Nat.zero_le _, Nat.zero_le _⟩ ?_
  refine (jx_xb_some h).elim (fun gv2 => ?_) (fun gv2 => ?_)
  · obtain ⟨v2, S3, ev2, h⟩ := gv2
    refine jf_callVS (out := S3) hx hb hml hown hts hlv hV (jf_mustBe_met hfl ev2) jf_mustBe_g_X1 jf_mustBe_d (As := [.int q1]) (Nat.le_of_ble_eq_true rfl) (Nat.le_of_ble_eq_true rfl) hP hS hl.1 rfl rfl (lv_room (Nat.le_of_ble_eq_true rfl)) dX1_isHarm_14 (fun H locs hP hS => ?_)
    exact jf_xvret hx hb hr hlk hV hP hS h dX1_isHarm_17
  · obtain ⟨v2, S3, ev2, ho⟩ := gv2
    subst ho
    exact jf_outS (S1 := S3) (k := v2) hx hb hml hown hts hlv hV het hlk (jf_mustBe_met hfl ev2) jf_mustBe_g_X1 jf_mustBe_d (As := [.int q1]) (Nat.le_of_ble_eq_true rfl) (Nat.le_of_ble_eq_true rfl) (hcx _ rfl) hP hS hl.1 rfl rfl (lv_room (Nat.le_of_ble_eq_true rfl)) dX1_isHarm_14
theorem jf_isHarm_met {l : Launch} {D : va_G} {E : jf_E} {A : Nat → Prop} {fo : Nat → Nat → Option Nat} {pl : va_W} {F : Nat} (hfl : l.flags = flags0) {x1 : Int32} {S : jf_S} {out : (Unit ⊕ Nat) × jf_S} (h : jf_isHarm F x1 S = some out) : jf_MXv l D E A fo pl yX1_isHarm cX1_isHarm 2 none 7 [.ref (E.1 0), .int x1] S out :=
  jf_MXv_of hfl (own := RX1) ⟨by decide, rfl, Nat.le_of_ble_eq_true rfl⟩ (fun hX => jf_isHarm_ok hX F x1 S h)
theorem jf_order_d : yX1_order.cls = RX1 ∧ yX1_order.cls ≠ "java/lang/invoke/MethodHandle" ∧ yX1_order.cls ≠ "java/lang/invoke/VarHandle" ∧ (parseMethodDescriptor yX1_order.desc).map (fun d => d.parameters.length) = some 2 := by decide +kernel
theorem jf_order_ok {out : (Int32 ⊕ Nat) × jf_S} (hX : jf_OkX RX1 l p R s m args meth c A D E cX1_order 4 (some .int) 8 out) (F : Nat) (x1 : Int32) (x2 : Int32) (S : jf_S) (h : jf_order F x1 x2 S = some out) : jf_J p l e R s m args below meth c A D E fo pl 4 (jf_QXi below args s A D E fo pl out) 0 [(0, .ref (E.1 0)), (1, .int x1), (2, .int x2)] [] S := by
  intro H locs ls hP hS hl
  have hX0 := hX
  obtain ⟨⟨hx, hb, hml, hown, hts, hlk, hr, hlv, hV, het⟩, hfl, hcx⟩ := hX0
  unfold jf_order at h
  refine lv_aload_n hx hb dX1_order_0 rfl (lv_at hl 0 rfl) ?_
  refine lv_iload_n hx hb dX1_order_1 rfl (lv_at hl 1 rfl) ?_
  refine (jx_xb_some h).elim (fun gv1 => ?_) (fun gv1 => ?_)
  · obtain ⟨v1, S2, ev1, h⟩ := gv1
    refine jf_callO (ci := 1) (out := (v1, S2)) hx hb hml hown hts hlv hV (jf_orderAt_met hfl ev1) jf_orderAt_g_X1 jf_orderAt_d (As := [.int x1]) (Nat.le_of_ble_eq_true rfl) (Nat.le_of_ble_eq_true rfl) hP hS jf_o0 rfl hl.1 rfl rfl (lv_room (Nat.le_of_ble_eq_true rfl)) dX1_order_2 (fun v1a H locs v1h hP hS => ?_)
    refine lv_astore_n (lv' := [(3, .ref v1a), (0, .ref (E.1 0)), (1, .int x1), (2, .int x2)]) hx hb dX1_order_5 rfl hl (Nat.le_of_ble_eq_true rfl) rfl (fun ls hl => ?_)
    refine lv_iload_n hx hb dX1_order_6 rfl (lv_at hl 3 rfl) ?_
    by_cases sw7_0 : x2 = nI 0
    · rw [if_pos sw7_0] at h
      refine lv_tableIn (tgt := 40) (off := 33) hx hb dX1_order_7 (by rw [sw7_0]; decide) (by rw [sw7_0]; decide) (by rw [sw7_0]; decide) rfl ?_
      refine lv_aload_n hx hb dX1_order_40 rfl (lv_at hl 0 rfl) ?_
      obtain ⟨q3, eq3, h⟩ := jx_bi_some h
      refine jv_word_X1 hx hb hml hown hts hlv hV v1h eq3 (Nat.le_of_ble_eq_true rfl) hP hS hl.1 rfl rfl (lv_room (Nat.le_of_ble_eq_true rfl)) dX1_order_41 (fun H locs hP hS => ?_)
      exact jf_xiret hx hb hr hlk hV hP hS h dX1_order_44
    · rw [if_neg sw7_0] at h
      by_cases sw7_1 : x2 = nI 1
      · rw [if_pos sw7_1] at h
        refine lv_tableIn (tgt := 45) (off := 38) hx hb dX1_order_7 (by rw [sw7_1]; decide) (by rw [sw7_1]; decide) (by rw [sw7_1]; decide) rfl ?_
        refine lv_aload_n hx hb dX1_order_45 rfl (lv_at hl 0 rfl) ?_
        refine jf_entry hx hb hts hown hV hP v1h (jf_l_X1_138 hV.2.2.1) dX1_order_46 ?_
        exact jf_xiret hx hb hr hlk hV hP hS h dX1_order_49
      · rw [if_neg sw7_1] at h
        by_cases sw7_2 : x2 = nI 2
        · rw [if_pos sw7_2] at h
          refine lv_tableIn (tgt := 50) (off := 43) hx hb dX1_order_7 (by rw [sw7_2]; decide) (by rw [sw7_2]; decide) (by rw [sw7_2]; decide) rfl ?_
          refine lv_aload_n hx hb dX1_order_50 rfl (lv_at hl 1 rfl) ?_
          refine jf_get hx hb hts in_X1 hown hV hP (ci := 1) (k := 1) jf_o0 rfl (by decide) (hts _ q455) rfl rfl dX1_order_51 ?_
          refine jf_getN hx hb hts in_X4 hown hV hP (ci := 3) (k := 1) (jf_oP (Or.inl rfl)) rfl (by decide) (jf_l_X1_128 hV.2.2.1) rfl rfl dX1_order_54 ?_
          refine lv_iload_n hx hb dX1_order_57 rfl (lv_at hl 2 rfl) ?_
          obtain ⟨j4, ej4, bj4, h⟩ := jx_ga_some h
          refine jf_iald hx hb hV hP (jf_aP1 (Or.inl rfl)) ej4 bj4 dX1_order_58 ?_
          exact jf_xiret hx hb hr hlk hV hP hS h dX1_order_59
        · rw [if_neg sw7_2] at h
          by_cases sw7_3 : x2 = nI 3
          · rw [if_pos sw7_3] at h
            refine lv_tableIn (tgt := 60) (off := 53) hx hb dX1_order_7 (by rw [sw7_3]; decide) (by rw [sw7_3]; decide) (by rw [sw7_3]; decide) rfl ?_
            refine lv_aload_n hx hb dX1_order_60 rfl (lv_at hl 0 rfl) ?_
            obtain ⟨q5, eq5, h⟩ := jx_bi_some h
            refine jv_kind_X1 hx hb hml hown hts hlv hV v1h eq5 (Nat.le_of_ble_eq_true rfl) hP hS hl.1 rfl rfl (lv_room (Nat.le_of_ble_eq_true rfl)) dX1_order_61 (fun H locs hP hS => ?_)
            exact jf_xiret hx hb hr hlk hV hP hS h dX1_order_64
          · rw [if_neg sw7_3] at h
            by_cases sw7_4 : x2 = nI 4
            · rw [if_pos sw7_4] at h
              refine lv_tableIn (tgt := 65) (off := 58) hx hb dX1_order_7 (by rw [sw7_4]; decide) (by rw [sw7_4]; decide) (by rw [sw7_4]; decide) rfl ?_
              refine lv_aload_n hx hb dX1_order_65 rfl (lv_at hl 0 rfl) ?_
              obtain ⟨q6, eq6, h⟩ := jx_bi_some h
              refine jv_place_X1 hx hb hml hown hts hlv hV v1h eq6 (Nat.le_of_ble_eq_true rfl) hP hS hl.1 rfl rfl (lv_room (Nat.le_of_ble_eq_true rfl)) dX1_order_66 (fun H locs hP hS => ?_)
              exact jf_xiret hx hb hr hlk hV hP hS h dX1_order_69
            · rw [if_neg sw7_4] at h
              refine lv_tableOut (tgt := 70) hx hb dX1_order_7 (jx_sw5 sw7_0 sw7_1 sw7_2 sw7_3 sw7_4) rfl ?_
              cases h
              exact jf_throwNew (k := 19) hfl hx hb hml hl.1 hown het hlk hlv (Nat.le_of_ble_eq_true rfl) hV hP hS (jx_thrW hts hV.2.1) (jx_chW_J10 hts hV.2.2.1) (jx_ctW_J10 hts) (hts _ q1298) (hts _ q130) rfl (by decide) rfl (hcx _ rfl) (Nat.le_of_ble_eq_true rfl) dX1_order_70 dX1_order_73 dX1_order_74 dX1_order_77
  · obtain ⟨v1, S2, ev1, ho⟩ := gv1
    subst ho
    exact jf_outV (ci := 1) (S1 := S2) (k := v1) hx hb hml hown hts hlv hV het hlk (jf_orderAt_met hfl ev1) jf_orderAt_g_X1 jf_orderAt_d (As := [.int x1]) (Nat.le_of_ble_eq_true rfl) (Nat.le_of_ble_eq_true rfl) (hcx _ rfl) hP hS jf_o0 rfl hl.1 rfl rfl (lv_room (Nat.le_of_ble_eq_true rfl)) dX1_order_2
theorem jf_order_met {l : Launch} {D : va_G} {E : jf_E} {A : Nat → Prop} {fo : Nat → Nat → Option Nat} {pl : va_W} {F : Nat} (hfl : l.flags = flags0) {x1 : Int32} {x2 : Int32} {S : jf_S} {out : (Int32 ⊕ Nat) × jf_S} (h : jf_order F x1 x2 S = some out) : jf_MXi l D E A fo pl yX1_order cX1_order 4 (some .int) 8 [.ref (E.1 0), .int x1, .int x2] S out :=
  jf_MXi_of hfl (own := RX1) ⟨by decide, rfl, Nat.le_of_ble_eq_true rfl⟩ (fun hX => jf_order_ok hX F x1 x2 S h)
theorem jf_grade_d : yX1_grade.cls = RX1 ∧ yX1_grade.cls ≠ "java/lang/invoke/MethodHandle" ∧ yX1_grade.cls ≠ "java/lang/invoke/VarHandle" ∧ (parseMethodDescriptor yX1_grade.desc).map (fun d => d.parameters.length) = some 2 := by decide +kernel
theorem jf_grade_b32_ok {out : (Int32 ⊕ Nat) × jf_S} (hX : jf_OkX RX1 l p R s m args meth c A D E cX1_grade 4 (some .boolean) 9 out) (F : Nat) (x1 : Int32) (x2 : Int32) (k0 : Int32) (S : jf_S) (h : jf_grade_b32 F x1 x2 k0 S = some out) : jf_J p l e R s m args below meth c A D E fo pl 4 (jf_QXi below args s A D E fo pl out) 32 [(0, .ref (E.1 0)), (1, .int x1), (2, .int x2)] [.int k0] S := by
  intro H locs ls hP hS hl
  have hX0 := hX
  obtain ⟨⟨hx, hb, hml, hown, hts, hlk, hr, hlv, hV, het⟩, hfl, hcx⟩ := hX0
  unfold jf_grade_b32 at h
  refine lv_istore_n (lv' := [(3, .int k0), (0, .ref (E.1 0)), (1, .int x1), (2, .int x2)]) hx hb dX1_grade_32 rfl hl (Nat.le_of_ble_eq_true rfl) rfl (fun ls hl => ?_)
  refine lv_aload_n hx hb dX1_grade_33 rfl (lv_at hl 1 rfl) ?_
  refine jf_get hx hb hts in_X1 hown hV hP (ci := 1) (k := 1) jf_o0 rfl (by decide) (hts _ q455) rfl rfl dX1_grade_34 ?_
  refine jf_getN hx hb hts in_X4 hown hV hP (ci := 3) (k := 1) (jf_oP (Or.inl rfl)) rfl (by decide) (jf_l_X1_128 hV.2.2.1) rfl rfl dX1_grade_37 ?_
  refine lv_iload_n hx hb dX1_grade_40 rfl (lv_at hl 2 rfl) ?_
  refine lv_iload_n hx hb dX1_grade_41 rfl (lv_at hl 3 rfl) ?_
  obtain ⟨j1, ej1, bj1, h⟩ := jx_ga_some h
  obtain ⟨S2, eS2, h⟩ := jx_nx_some h
  refine jf_iast hx hb hV hP hS (jf_aP1 (Or.inl rfl)) ej1 bj1 eS2 dX1_grade_42 (fun H locs hP hS => ?_)
  refine lv_iload_n hx hb dX1_grade_43 rfl (lv_at hl 0 rfl) ?_
  obtain ⟨z3, h⟩ := jx_gz_some h
  exact jf_xzret hx hb hr hlk hV hP hS z3 h dX1_grade_44
theorem jf_grade_ok {out : (Int32 ⊕ Nat) × jf_S} (hX : jf_OkX RX1 l p R s m args meth c A D E cX1_grade 4 (some .boolean) 9 out) (F : Nat) (x1 : Int32) (x2 : Int32) (S : jf_S) (h : jf_grade F x1 x2 S = some out) : jf_J p l e R s m args below meth c A D E fo pl 4 (jf_QXi below args s A D E fo pl out) 0 [(0, .ref (E.1 0)), (1, .int x1), (2, .int x2)] [] S := by
  intro H locs ls hP hS hl
  have hX0 := hX
  obtain ⟨⟨hx, hb, hml, hown, hts, hlk, hr, hlv, hV, het⟩, hfl, hcx⟩ := hX0
  unfold jf_grade at h
  refine lv_aload_n hx hb dX1_grade_0 rfl (lv_at hl 0 rfl) ?_
  refine lv_iload_n hx hb dX1_grade_1 rfl (lv_at hl 1 rfl) ?_
  refine (jx_xb_some h).elim (fun gv1 => ?_) (fun gv1 => ?_)
  · obtain ⟨v1, S2, ev1, h⟩ := gv1
    refine jf_callV (ci := 1) (out := S2) hx hb hml hown hts hlv hV (jf_isJump_met hfl ev1) jf_isJump_g_X1 jf_isJump_d (As := [.int x1]) (Nat.le_of_ble_eq_true rfl) (Nat.le_of_ble_eq_true rfl) hP hS jf_o0 rfl hl.1 rfl rfl (lv_room (Nat.le_of_ble_eq_true rfl)) dX1_grade_2 (fun H locs hP hS => ?_)
    refine lv_iload_n hx hb dX1_grade_5 rfl (lv_at hl 2 rfl) ?_
    refine lv_iconst hx hb dX1_grade_6 jx_ki0 ?_
    refine lv_iconst hx hb dX1_grade_7 jx_ki3 ?_
    obtain ⟨q3, eq3, h⟩ := jx_bi_some h
    refine jx_callSi hx hb hml hown hts (jf_isIn_met eq3) jf_isIn_g_X1 jf_isIn_d (As := [.int x2, .int (nI 0), .int (nI 3)]) (⟨Nat.le_trans (Nat.le_of_ble_eq_true rfl) hlv.1, Nat.le_trans (Nat.le_of_ble_eq_true rfl) hlv.2⟩) hl.1 rfl rfl (lv_room (Nat.le_of_ble_eq_true rfl)) dX1_grade_8 ⟨Nat.zero_le _, Nat.zero_le _⟩ ?_
    refine (jx_xb_some h).elim (fun gv4 => ?_) (fun gv4 => ?_)
    · obtain ⟨v4, S5, ev4, h⟩ := gv4
      refine jf_callVS (out := S5) hx hb hml hown hts hlv hV (jf_must_met hfl ev4) jf_must_g_X1 jf_must_d (As := [.int q3]) (Nat.le_of_ble_eq_true rfl) (Nat.le_of_ble_eq_true rfl) hP hS hl.1 rfl rfl (lv_room (Nat.le_of_ble_eq_true rfl)) dX1_grade_11 (fun H locs hP hS => ?_)
      refine lv_aload_n hx hb dX1_grade_14 rfl (lv_at hl 0 rfl) ?_
      refine jf_get hx hb hts in_X1 hown hV hP (ci := 1) (k := 1) jf_o0 rfl (by decide) (hts _ q455) rfl rfl dX1_grade_15 ?_
      refine jf_getN hx hb hts in_X4 hown hV hP (ci := 3) (k := 1) (jf_oP (Or.inl rfl)) rfl (by decide) (jf_l_X1_128 hV.2.2.1) rfl rfl dX1_grade_18 ?_
      refine lv_iload_n hx hb dX1_grade_21 rfl (lv_at hl 1 rfl) ?_
      obtain ⟨j6, ej6, bj6, h⟩ := jx_ga_some h
      refine jf_iald hx hb hV hP (jf_aP1 (Or.inl rfl)) ej6 bj6 dX1_grade_22 ?_
      refine lv_iload_n hx hb dX1_grade_23 rfl (lv_at hl 2 rfl) ?_
      refine lv_icmp_eq (tgt := 31) hx hb dX1_grade_24 rfl (fun c7 => ?_) (fun c7 => ?_)
      · rw [if_pos c7] at h
        refine lv_iconst hx hb dX1_grade_31 jx_ki0 ?_
        exact jf_grade_b32_ok hX F _ _ _ _ h _ _ _ hP hS hl
      · rw [if_neg c7] at h
        refine lv_iconst hx hb dX1_grade_27 jx_ki1 ?_
        refine lv_goto (tgt := 32) hx hb dX1_grade_28 rfl ?_
        exact jf_grade_b32_ok hX F _ _ _ _ h _ _ _ hP hS hl
    · obtain ⟨v4, S5, ev4, ho⟩ := gv4
      subst ho
      exact jf_outS (S1 := S5) (k := v4) hx hb hml hown hts hlv hV het hlk (jf_must_met hfl ev4) jf_must_g_X1 jf_must_d (As := [.int q3]) (Nat.le_of_ble_eq_true rfl) (Nat.le_of_ble_eq_true rfl) (hcx _ rfl) hP hS hl.1 rfl rfl (lv_room (Nat.le_of_ble_eq_true rfl)) dX1_grade_11
  · obtain ⟨v1, S2, ev1, ho⟩ := gv1
    subst ho
    exact jf_outV (ci := 1) (S1 := S2) (k := v1) hx hb hml hown hts hlv hV het hlk (jf_isJump_met hfl ev1) jf_isJump_g_X1 jf_isJump_d (As := [.int x1]) (Nat.le_of_ble_eq_true rfl) (Nat.le_of_ble_eq_true rfl) (hcx _ rfl) hP hS jf_o0 rfl hl.1 rfl rfl (lv_room (Nat.le_of_ble_eq_true rfl)) dX1_grade_2
theorem jf_grade_met {l : Launch} {D : va_G} {E : jf_E} {A : Nat → Prop} {fo : Nat → Nat → Option Nat} {pl : va_W} {F : Nat} (hfl : l.flags = flags0) {x1 : Int32} {x2 : Int32} {S : jf_S} {out : (Int32 ⊕ Nat) × jf_S} (h : jf_grade F x1 x2 S = some out) : jf_MXi l D E A fo pl yX1_grade cX1_grade 4 (some .boolean) 9 [.ref (E.1 0), .int x1, .int x2] S out :=
  jf_MXi_of hfl (own := RX1) ⟨by decide, rfl, Nat.le_of_ble_eq_true rfl⟩ (fun hX => jf_grade_ok hX F x1 x2 S h)
theorem jf_ticks_d : yX1_ticks.cls = RX1 ∧ yX1_ticks.cls ≠ "java/lang/invoke/MethodHandle" ∧ yX1_ticks.cls ≠ "java/lang/invoke/VarHandle" ∧ (parseMethodDescriptor yX1_ticks.desc).map (fun d => d.parameters.length) = some 2 := by decide +kernel
theorem jf_ticks_b24_ok {out : (Unit ⊕ Nat) × jf_S} (hX : jf_OkX RX1 l p R s m args meth c A D E cX1_ticks 3 none 7 out) (F : Nat) (x1 : Int32) (x2 : Int32) (k0 : Int32) (S : jf_S) (h : jf_ticks_b24 F x1 x2 k0 S = some out) : jf_J p l e R s m args below meth c A D E fo pl 3 (jf_QXv below args s A D E fo pl out) 24 [(0, .ref (E.1 0)), (1, .int x1), (2, .int x2)] [.int k0] S := by
  intro H locs ls hP hS hl
  have hX0 := hX
  obtain ⟨⟨hx, hb, hml, hown, hts, hlk, hr, hlv, hV, het⟩, hfl, hcx⟩ := hX0
  unfold jf_ticks_b24 at h
  refine (jx_xb_some h).elim (fun gv1 => ?_) (fun gv1 => ?_)
  · obtain ⟨v1, S2, ev1, h⟩ := gv1
    refine jf_callVS (out := S2) hx hb hml hown hts hlv hV (jf_must_met hfl ev1) jf_must_g_X1 jf_must_d (As := [.int k0]) (Nat.le_of_ble_eq_true rfl) (Nat.le_of_ble_eq_true rfl) hP hS hl.1 rfl rfl (lv_room (Nat.le_of_ble_eq_true rfl)) dX1_ticks_24 (fun H locs hP hS => ?_)
    refine lv_aload_n hx hb dX1_ticks_27 rfl (lv_at hl 0 rfl) ?_
    refine jf_get hx hb hts in_X1 hown hV hP (ci := 1) (k := 1) jf_o0 rfl (by decide) (hts _ q455) rfl rfl dX1_ticks_28 ?_
    refine jf_getN hx hb hts in_X4 hown hV hP (ci := 3) (k := 2) (jf_oP (Or.inl rfl)) rfl (by decide) (jf_l_X1_151 hV.2.2.1) rfl rfl dX1_ticks_31 ?_
    refine lv_iload_n hx hb dX1_ticks_34 rfl (lv_at hl 1 rfl) ?_
    refine lv_iload_n hx hb dX1_ticks_35 rfl (lv_at hl 2 rfl) ?_
    obtain ⟨j3, ej3, bj3, h⟩ := jx_ga_some h
    obtain ⟨S4, eS4, h⟩ := jx_nx_some h
    refine jf_iast hx hb hV hP hS (jf_aP2 (Or.inl rfl)) ej3 bj3 eS4 dX1_ticks_36 (fun H locs hP hS => ?_)
    exact jf_xvret hx hb hr hlk hV hP hS h dX1_ticks_37
  · obtain ⟨v1, S2, ev1, ho⟩ := gv1
    subst ho
    exact jf_outS (S1 := S2) (k := v1) hx hb hml hown hts hlv hV het hlk (jf_must_met hfl ev1) jf_must_g_X1 jf_must_d (As := [.int k0]) (Nat.le_of_ble_eq_true rfl) (Nat.le_of_ble_eq_true rfl) (hcx _ rfl) hP hS hl.1 rfl rfl (lv_room (Nat.le_of_ble_eq_true rfl)) dX1_ticks_24
theorem jf_ticks_b23_ok {out : (Unit ⊕ Nat) × jf_S} (hX : jf_OkX RX1 l p R s m args meth c A D E cX1_ticks 3 none 7 out) (F : Nat) (x1 : Int32) (x2 : Int32) (S : jf_S) (h : jf_ticks_b23 F x1 x2 S = some out) : jf_J p l e R s m args below meth c A D E fo pl 3 (jf_QXv below args s A D E fo pl out) 23 [(0, .ref (E.1 0)), (1, .int x1), (2, .int x2)] [] S := by
  intro H locs ls hP hS hl
  have hX0 := hX
  obtain ⟨⟨hx, hb, hml, hown, hts, hlk, hr, hlv, hV, het⟩, hfl, hcx⟩ := hX0
  unfold jf_ticks_b23 at h
  refine lv_iconst hx hb dX1_ticks_23 jx_ki0 ?_
  exact jf_ticks_b24_ok hX F _ _ _ _ h _ _ _ hP hS hl
theorem jf_ticks_ok {out : (Unit ⊕ Nat) × jf_S} (hX : jf_OkX RX1 l p R s m args meth c A D E cX1_ticks 3 none 7 out) (F : Nat) (x1 : Int32) (x2 : Int32) (S : jf_S) (h : jf_ticks F x1 x2 S = some out) : jf_J p l e R s m args below meth c A D E fo pl 3 (jf_QXv below args s A D E fo pl out) 0 [(0, .ref (E.1 0)), (1, .int x1), (2, .int x2)] [] S := by
  intro H locs ls hP hS hl
  have hX0 := hX
  obtain ⟨⟨hx, hb, hml, hown, hts, hlk, hr, hlv, hV, het⟩, hfl, hcx⟩ := hX0
  unfold jf_ticks at h
  refine lv_iload_n hx hb dX1_ticks_0 rfl (lv_at hl 1 rfl) ?_
  refine lv_iconst hx hb dX1_ticks_1 jx_ki1 ?_
  refine lv_iconst hx hb dX1_ticks_2 jx_ki3 ?_
  obtain ⟨q1, eq1, h⟩ := jx_bi_some h
  refine jx_callSi hx hb hml hown hts (jf_isIn_met eq1) jf_isIn_g_X1 jf_isIn_d (As := [.int x1, .int (nI 1), .int (nI 3)]) (⟨Nat.le_trans (Nat.le_of_ble_eq_true rfl) hlv.1, Nat.le_trans (Nat.le_of_ble_eq_true rfl) hlv.2⟩) hl.1 rfl rfl (lv_room (Nat.le_of_ble_eq_true rfl)) dX1_ticks_3 ⟨Nat.zero_le _, Nat.zero_le _⟩ ?_
  refine lv_if_eq (tgt := 23) hx hb dX1_ticks_6 rfl (fun c2 => ?_) (fun c2 => ?_)
  · rw [if_pos c2] at h
    exact jf_ticks_b23_ok hX F _ _ _ h _ _ _ hP hS hl
  · rw [if_neg c2] at h
    refine lv_iload_n hx hb dX1_ticks_9 rfl (lv_at hl 2 rfl) ?_
    refine lv_iconst hx hb dX1_ticks_10 jx_ki1 ?_
    refine lv_bipush hx hb dX1_ticks_11 jx_kb99 ?_
    obtain ⟨q3, eq3, h⟩ := jx_bi_some h
    refine jx_callSi hx hb hml hown hts (jf_isIn_met eq3) jf_isIn_g_X1 jf_isIn_d (As := [.int x2, .int (nI 1), .int (nI 99)]) (⟨Nat.le_trans (Nat.le_of_ble_eq_true rfl) hlv.1, Nat.le_trans (Nat.le_of_ble_eq_true rfl) hlv.2⟩) hl.1 rfl rfl (lv_room (Nat.le_of_ble_eq_true rfl)) dX1_ticks_13 ⟨Nat.zero_le _, Nat.zero_le _⟩ ?_
    refine lv_if_eq (tgt := 23) hx hb dX1_ticks_16 rfl (fun c4 => ?_) (fun c4 => ?_)
    · rw [if_pos c4] at h
      exact jf_ticks_b23_ok hX F _ _ _ h _ _ _ hP hS hl
    · rw [if_neg c4] at h
      refine lv_iconst hx hb dX1_ticks_19 jx_ki1 ?_
      refine lv_goto (tgt := 24) hx hb dX1_ticks_20 rfl ?_
      exact jf_ticks_b24_ok hX F _ _ _ _ h _ _ _ hP hS hl
theorem jf_ticks_met {l : Launch} {D : va_G} {E : jf_E} {A : Nat → Prop} {fo : Nat → Nat → Option Nat} {pl : va_W} {F : Nat} (hfl : l.flags = flags0) {x1 : Int32} {x2 : Int32} {S : jf_S} {out : (Unit ⊕ Nat) × jf_S} (h : jf_ticks F x1 x2 S = some out) : jf_MXv l D E A fo pl yX1_ticks cX1_ticks 3 none 7 [.ref (E.1 0), .int x1, .int x2] S out :=
  jf_MXv_of hfl (own := RX1) ⟨by decide, rfl, Nat.le_of_ble_eq_true rfl⟩ (fun hX => jf_ticks_ok hX F x1 x2 S h)
theorem jf_landings_d : yX1_landings.cls = RX1 ∧ yX1_landings.cls ≠ "java/lang/invoke/MethodHandle" ∧ yX1_landings.cls ≠ "java/lang/invoke/VarHandle" ∧ (parseMethodDescriptor yX1_landings.desc).map (fun d => d.parameters.length) = some 2 := by decide +kernel
theorem jf_landings_ok {out : (Int64 ⊕ Nat) × jf_S} (hX : jf_OkX RX1 l p R s m args meth c A D E cX1_landings 3 (some .long) 9 out) (F : Nat) (x1 : Int32) (x2 : Int32) (S : jf_S) (h : jf_landings F x1 x2 S = some out) : jf_J p l e R s m args below meth c A D E fo pl 3 (jf_QXl below args s A D E fo pl out) 0 [(0, .ref (E.1 0)), (1, .int x1), (2, .int x2)] [] S := by
  intro H locs ls hP hS hl
  have hX0 := hX
  obtain ⟨⟨hx, hb, hml, hown, hts, hlk, hr, hlv, hV, het⟩, hfl, hcx⟩ := hX0
  unfold jf_landings at h
  refine lv_aload_n hx hb dX1_landings_0 rfl (lv_at hl 0 rfl) ?_
  refine lv_iload_n hx hb dX1_landings_1 rfl (lv_at hl 1 rfl) ?_
  refine (jx_xb_some h).elim (fun gv1 => ?_) (fun gv1 => ?_)
  · obtain ⟨v1, S2, ev1, h⟩ := gv1
    refine jf_callV (ci := 1) (out := S2) hx hb hml hown hts hlv hV (jf_isJump_met hfl ev1) jf_isJump_g_X1 jf_isJump_d (As := [.int x1]) (Nat.le_of_ble_eq_true rfl) (Nat.le_of_ble_eq_true rfl) hP hS jf_o0 rfl hl.1 rfl rfl (lv_room (Nat.le_of_ble_eq_true rfl)) dX1_landings_2 (fun H locs hP hS => ?_)
    refine lv_iload_n hx hb dX1_landings_5 rfl (lv_at hl 2 rfl) ?_
    refine lv_if_eq (tgt := 21) hx hb dX1_landings_6 rfl (fun c3 => ?_) (fun c3 => ?_)
    · rw [if_pos c3] at h
      refine lv_aload_n hx hb dX1_landings_21 rfl (lv_at hl 0 rfl) ?_
      refine jf_get hx hb hts in_X1 hown hV hP (ci := 1) (k := 1) jf_o0 rfl (by decide) (hts _ q455) rfl rfl dX1_landings_22 ?_
      refine jf_getN hx hb hts in_X4 hown hV hP (ci := 3) (k := 10) (jf_oP (Or.inl rfl)) rfl (by decide) (jf_l_X1_158 hV.2.2.1) rfl rfl dX1_landings_25 ?_
      refine lv_iload_n hx hb dX1_landings_28 rfl (lv_at hl 1 rfl) ?_
      obtain ⟨j4, ej4, bj4, h⟩ := jx_ga_some h
      refine jf_lald hx hb hV hP (jf_aP10 (Or.inl rfl)) ej4 bj4 dX1_landings_29 ?_
      exact jf_xlret hx hb hr hlk hV hP hS h dX1_landings_30
    · rw [if_neg c3] at h
      refine lv_aload_n hx hb dX1_landings_9 rfl (lv_at hl 0 rfl) ?_
      refine jf_get hx hb hts in_X1 hown hV hP (ci := 1) (k := 1) jf_o0 rfl (by decide) (hts _ q455) rfl rfl dX1_landings_10 ?_
      refine jf_getN hx hb hts in_X4 hown hV hP (ci := 3) (k := 11) (jf_oP (Or.inl rfl)) rfl (by decide) (jf_l_X1_154 hV.2.2.1) rfl rfl dX1_landings_13 ?_
      refine lv_iload_n hx hb dX1_landings_16 rfl (lv_at hl 1 rfl) ?_
      obtain ⟨j5, ej5, bj5, h⟩ := jx_ga_some h
      refine jf_lald hx hb hV hP (jf_aP11 (Or.inl rfl)) ej5 bj5 dX1_landings_17 ?_
      refine lv_goto (tgt := 30) hx hb dX1_landings_18 rfl ?_
      exact jf_xlret hx hb hr hlk hV hP hS h dX1_landings_30
  · obtain ⟨v1, S2, ev1, ho⟩ := gv1
    subst ho
    exact jf_outV (ci := 1) (S1 := S2) (k := v1) hx hb hml hown hts hlv hV het hlk (jf_isJump_met hfl ev1) jf_isJump_g_X1 jf_isJump_d (As := [.int x1]) (Nat.le_of_ble_eq_true rfl) (Nat.le_of_ble_eq_true rfl) (hcx _ rfl) hP hS jf_o0 rfl hl.1 rfl rfl (lv_room (Nat.le_of_ble_eq_true rfl)) dX1_landings_2
theorem jf_landings_met {l : Launch} {D : va_G} {E : jf_E} {A : Nat → Prop} {fo : Nat → Nat → Option Nat} {pl : va_W} {F : Nat} (hfl : l.flags = flags0) {x1 : Int32} {x2 : Int32} {S : jf_S} {out : (Int64 ⊕ Nat) × jf_S} (h : jf_landings F x1 x2 S = some out) : jf_MXl l D E A fo pl yX1_landings cX1_landings 3 (some .long) 9 [.ref (E.1 0), .int x1, .int x2] S out :=
  jf_MXl_of hfl (own := RX1) ⟨by decide, rfl, Nat.le_of_ble_eq_true rfl⟩ (fun hX => jf_landings_ok hX F x1 x2 S h)
theorem jf_lets_d : yX1_lets.cls = RX1 ∧ yX1_lets.cls ≠ "java/lang/invoke/MethodHandle" ∧ yX1_lets.cls ≠ "java/lang/invoke/VarHandle" ∧ (parseMethodDescriptor yX1_lets.desc).map (fun d => d.parameters.length) = some 1 := by decide +kernel
theorem jf_lets_ok {out : (Int64 ⊕ Nat) × jf_S} (hX : jf_OkX RX1 l p R s m args meth c A D E cX1_lets 2 (some .long) 9 out) (F : Nat) (x1 : Int32) (S : jf_S) (h : jf_lets F x1 S = some out) : jf_J p l e R s m args below meth c A D E fo pl 2 (jf_QXl below args s A D E fo pl out) 0 [(0, .ref (E.1 0)), (1, .int x1)] [] S := by
  intro H locs ls hP hS hl
  have hX0 := hX
  obtain ⟨⟨hx, hb, hml, hown, hts, hlk, hr, hlv, hV, het⟩, hfl, hcx⟩ := hX0
  unfold jf_lets at h
  refine lv_aload_n hx hb dX1_lets_0 rfl (lv_at hl 0 rfl) ?_
  refine lv_iload_n hx hb dX1_lets_1 rfl (lv_at hl 1 rfl) ?_
  refine (jx_xb_some h).elim (fun gv1 => ?_) (fun gv1 => ?_)
  · obtain ⟨v1, S2, ev1, h⟩ := gv1
    refine jf_callV (ci := 1) (out := S2) hx hb hml hown hts hlv hV (jf_isJump_met hfl ev1) jf_isJump_g_X1 jf_isJump_d (As := [.int x1]) (Nat.le_of_ble_eq_true rfl) (Nat.le_of_ble_eq_true rfl) hP hS jf_o0 rfl hl.1 rfl rfl (lv_room (Nat.le_of_ble_eq_true rfl)) dX1_lets_2 (fun H locs hP hS => ?_)
    refine lv_aload_n hx hb dX1_lets_5 rfl (lv_at hl 0 rfl) ?_
    refine jf_get hx hb hts in_X1 hown hV hP (ci := 1) (k := 1) jf_o0 rfl (by decide) (hts _ q455) rfl rfl dX1_lets_6 ?_
    refine lv_iload_n hx hb dX1_lets_9 rfl (lv_at hl 1 rfl) ?_
    refine lv_aload_n hx hb dX1_lets_10 rfl (lv_at hl 0 rfl) ?_
    refine jf_get hx hb hts in_X1 hown hV hP (ci := 1) (k := 1) jf_o0 rfl (by decide) (hts _ q455) rfl rfl dX1_lets_11 ?_
    refine jf_getN hx hb hts in_X4 hown hV hP (ci := 3) (k := 1) (jf_oP (Or.inl rfl)) rfl (by decide) (jf_l_X1_128 hV.2.2.1) rfl rfl dX1_lets_14 ?_
    refine lv_iload_n hx hb dX1_lets_17 rfl (lv_at hl 1 rfl) ?_
    obtain ⟨j3, ej3, bj3, h⟩ := jx_ga_some h
    refine jf_iald hx hb hV hP (jf_aP1 (Or.inl rfl)) ej3 bj3 dX1_lets_18 ?_
    obtain ⟨q4, eq4, h⟩ := jx_bi_some h
    refine jf_callL hx hb hml hown hts hlv hV (jp_lets_met (Or.inl rfl) eq4) jp_lets_g_X1 jp_lets_d (As := [.int x1, .int (S2.2.2.1 3 1 j3)]) (Nat.le_of_ble_eq_true rfl) (Nat.le_of_ble_eq_true rfl) hP hS (ci := 3) (jf_oP (Or.inl rfl)) rfl hl.1 rfl rfl (lv_room (Nat.le_of_ble_eq_true rfl)) dX1_lets_19 (fun H locs hP hS => ?_)
    exact jf_xlret hx hb hr hlk hV hP hS h dX1_lets_22
  · obtain ⟨v1, S2, ev1, ho⟩ := gv1
    subst ho
    exact jf_outV (ci := 1) (S1 := S2) (k := v1) hx hb hml hown hts hlv hV het hlk (jf_isJump_met hfl ev1) jf_isJump_g_X1 jf_isJump_d (As := [.int x1]) (Nat.le_of_ble_eq_true rfl) (Nat.le_of_ble_eq_true rfl) (hcx _ rfl) hP hS jf_o0 rfl hl.1 rfl rfl (lv_room (Nat.le_of_ble_eq_true rfl)) dX1_lets_2
theorem jf_lets_met {l : Launch} {D : va_G} {E : jf_E} {A : Nat → Prop} {fo : Nat → Nat → Option Nat} {pl : va_W} {F : Nat} (hfl : l.flags = flags0) {x1 : Int32} {S : jf_S} {out : (Int64 ⊕ Nat) × jf_S} (h : jf_lets F x1 S = some out) : jf_MXl l D E A fo pl yX1_lets cX1_lets 2 (some .long) 9 [.ref (E.1 0), .int x1] S out :=
  jf_MXl_of hfl (own := RX1) ⟨by decide, rfl, Nat.le_of_ble_eq_true rfl⟩ (fun hX => jf_lets_ok hX F x1 S h)
theorem jf_holds_d : yX1_holds.cls = RX1 ∧ yX1_holds.cls ≠ "java/lang/invoke/MethodHandle" ∧ yX1_holds.cls ≠ "java/lang/invoke/VarHandle" ∧ (parseMethodDescriptor yX1_holds.desc).map (fun d => d.parameters.length) = some 1 := by decide +kernel
theorem jf_holds_ok {out : (Int64 ⊕ Nat) × jf_S} (hX : jf_OkX RX1 l p R s m args meth c A D E cX1_holds 2 (some .long) 8 out) (F : Nat) (x1 : Int32) (S : jf_S) (h : jf_holds F x1 S = some out) : jf_J p l e R s m args below meth c A D E fo pl 2 (jf_QXl below args s A D E fo pl out) 0 [(0, .ref (E.1 0)), (1, .int x1)] [] S := by
  intro H locs ls hP hS hl
  have hX0 := hX
  obtain ⟨⟨hx, hb, hml, hown, hts, hlk, hr, hlv, hV, het⟩, hfl, hcx⟩ := hX0
  unfold jf_holds at h
  refine lv_iload_n hx hb dX1_holds_0 rfl (lv_at hl 1 rfl) ?_
  refine lv_bipush hx hb dX1_holds_1 jx_kb16 ?_
  refine (jx_xb_some h).elim (fun gv1 => ?_) (fun gv1 => ?_)
  · obtain ⟨v1, S2, ev1, h⟩ := gv1
    refine jf_callVS (out := S2) hx hb hml hown hts hlv hV (jf_isCell_met hfl ev1) jf_isCell_g_X1 jf_isCell_d (As := [.int x1, .int (nI 16)]) (Nat.le_of_ble_eq_true rfl) (Nat.le_of_ble_eq_true rfl) hP hS hl.1 rfl rfl (lv_room (Nat.le_of_ble_eq_true rfl)) dX1_holds_3 (fun H locs hP hS => ?_)
    refine lv_aload_n hx hb dX1_holds_6 rfl (lv_at hl 0 rfl) ?_
    refine jf_get hx hb hts in_X1 hown hV hP (ci := 1) (k := 1) jf_o0 rfl (by decide) (hts _ q455) rfl rfl dX1_holds_7 ?_
    refine jf_getN hx hb hts in_X4 hown hV hP (ci := 3) (k := 9) (jf_oP (Or.inl rfl)) rfl (by decide) (jf_l_X1_168 hV.2.2.1) rfl rfl dX1_holds_10 ?_
    refine lv_iload_n hx hb dX1_holds_13 rfl (lv_at hl 1 rfl) ?_
    obtain ⟨j3, ej3, bj3, h⟩ := jx_ga_some h
    refine jf_lald hx hb hV hP (jf_aP9 (Or.inl rfl)) ej3 bj3 dX1_holds_14 ?_
    exact jf_xlret hx hb hr hlk hV hP hS h dX1_holds_15
  · obtain ⟨v1, S2, ev1, ho⟩ := gv1
    subst ho
    exact jf_outS (S1 := S2) (k := v1) hx hb hml hown hts hlv hV het hlk (jf_isCell_met hfl ev1) jf_isCell_g_X1 jf_isCell_d (As := [.int x1, .int (nI 16)]) (Nat.le_of_ble_eq_true rfl) (Nat.le_of_ble_eq_true rfl) (hcx _ rfl) hP hS hl.1 rfl rfl (lv_room (Nat.le_of_ble_eq_true rfl)) dX1_holds_3
theorem jf_holds_met {l : Launch} {D : va_G} {E : jf_E} {A : Nat → Prop} {fo : Nat → Nat → Option Nat} {pl : va_W} {F : Nat} (hfl : l.flags = flags0) {x1 : Int32} {S : jf_S} {out : (Int64 ⊕ Nat) × jf_S} (h : jf_holds F x1 S = some out) : jf_MXl l D E A fo pl yX1_holds cX1_holds 2 (some .long) 8 [.ref (E.1 0), .int x1] S out :=
  jf_MXl_of hfl (own := RX1) ⟨by decide, rfl, Nat.le_of_ble_eq_true rfl⟩ (fun hX => jf_holds_ok hX F x1 S h)
theorem jf_odd_d : yX1_odd.cls = RX1 ∧ yX1_odd.cls ≠ "java/lang/invoke/MethodHandle" ∧ yX1_odd.cls ≠ "java/lang/invoke/VarHandle" ∧ (parseMethodDescriptor yX1_odd.desc).map (fun d => d.parameters.length) = some 1 := by decide +kernel
theorem jf_odd_ok {out : (Int32 ⊕ Nat) × jf_S} (hX : jf_OkX RX1 l p R s m args meth c A D E cX1_odd 2 (some .boolean) 8 out) (F : Nat) (x1 : Int32) (S : jf_S) (h : jf_odd F x1 S = some out) : jf_J p l e R s m args below meth c A D E fo pl 2 (jf_QXi below args s A D E fo pl out) 0 [(0, .ref (E.1 0)), (1, .int x1)] [] S := by
  intro H locs ls hP hS hl
  have hX0 := hX
  obtain ⟨⟨hx, hb, hml, hown, hts, hlk, hr, hlv, hV, het⟩, hfl, hcx⟩ := hX0
  unfold jf_odd at h
  refine lv_iload_n hx hb dX1_odd_0 rfl (lv_at hl 1 rfl) ?_
  refine lv_bipush hx hb dX1_odd_1 jx_kb16 ?_
  refine (jx_xb_some h).elim (fun gv1 => ?_) (fun gv1 => ?_)
  · obtain ⟨v1, S2, ev1, h⟩ := gv1
    refine jf_callVS (out := S2) hx hb hml hown hts hlv hV (jf_isCell_met hfl ev1) jf_isCell_g_X1 jf_isCell_d (As := [.int x1, .int (nI 16)]) (Nat.le_of_ble_eq_true rfl) (Nat.le_of_ble_eq_true rfl) hP hS hl.1 rfl rfl (lv_room (Nat.le_of_ble_eq_true rfl)) dX1_odd_3 (fun H locs hP hS => ?_)
    refine lv_aload_n hx hb dX1_odd_6 rfl (lv_at hl 0 rfl) ?_
    refine jf_get hx hb hts in_X1 hown hV hP (ci := 1) (k := 1) jf_o0 rfl (by decide) (hts _ q455) rfl rfl dX1_odd_7 ?_
    refine jf_getN hx hb hts in_X4 hown hV hP (ci := 3) (k := 17) (jf_oP (Or.inl rfl)) rfl (by decide) (jf_l_X1_171 hV.2.2.1) rfl rfl dX1_odd_10 ?_
    refine lv_iload_n hx hb dX1_odd_13 rfl (lv_at hl 1 rfl) ?_
    refine lv_ishr hx hb dX1_odd_14 ?_
    refine lv_iconst hx hb dX1_odd_15 jx_ki1 ?_
    refine lv_iand hx hb dX1_odd_16 ?_
    refine lv_iconst hx hb dX1_odd_17 jx_ki1 ?_
    refine lv_icmp_ne (tgt := 25) hx hb dX1_odd_18 rfl (fun c3 => ?_) (fun c3 => ?_)
    · rw [if_neg c3] at h
      refine lv_iconst hx hb dX1_odd_25 jx_ki0 ?_
      exact jf_xzret hx hb hr hlk hV hP hS jx_nz0 h dX1_odd_26
    · rw [if_pos c3] at h
      refine lv_iconst hx hb dX1_odd_21 jx_ki1 ?_
      refine lv_goto (tgt := 26) hx hb dX1_odd_22 rfl ?_
      exact jf_xzret hx hb hr hlk hV hP hS jx_nz1 h dX1_odd_26
  · obtain ⟨v1, S2, ev1, ho⟩ := gv1
    subst ho
    exact jf_outS (S1 := S2) (k := v1) hx hb hml hown hts hlv hV het hlk (jf_isCell_met hfl ev1) jf_isCell_g_X1 jf_isCell_d (As := [.int x1, .int (nI 16)]) (Nat.le_of_ble_eq_true rfl) (Nat.le_of_ble_eq_true rfl) (hcx _ rfl) hP hS hl.1 rfl rfl (lv_room (Nat.le_of_ble_eq_true rfl)) dX1_odd_3
theorem jf_odd_met {l : Launch} {D : va_G} {E : jf_E} {A : Nat → Prop} {fo : Nat → Nat → Option Nat} {pl : va_W} {F : Nat} (hfl : l.flags = flags0) {x1 : Int32} {S : jf_S} {out : (Int32 ⊕ Nat) × jf_S} (h : jf_odd F x1 S = some out) : jf_MXi l D E A fo pl yX1_odd cX1_odd 2 (some .boolean) 8 [.ref (E.1 0), .int x1] S out :=
  jf_MXi_of hfl (own := RX1) ⟨by decide, rfl, Nat.le_of_ble_eq_true rfl⟩ (fun hX => jf_odd_ok hX F x1 S h)
theorem jf_bend_d : yX1_bend.cls = RX1 ∧ yX1_bend.cls ≠ "java/lang/invoke/MethodHandle" ∧ yX1_bend.cls ≠ "java/lang/invoke/VarHandle" ∧ (parseMethodDescriptor yX1_bend.desc).map (fun d => d.parameters.length) = some 3 := by decide +kernel
theorem jf_bend_b34_ok {out : (Int32 ⊕ Nat) × jf_S} (hX : jf_OkX RX1 l p R s m args meth c A D E cX1_bend 4 (some .int) 8 out) (F : Nat) (x1 : Int32) (x2 : Int32) (x3 : Int32) (k0 : Int32) (S : jf_S) (h : jf_bend_b34 F x1 x2 x3 k0 S = some out) : jf_J p l e R s m args below meth c A D E fo pl 4 (jf_QXi below args s A D E fo pl out) 34 [(0, .ref (E.1 0)), (1, .int x1), (2, .int x2), (3, .int x3)] [.int k0] S := by
  intro H locs ls hP hS hl
  have hX0 := hX
  obtain ⟨⟨hx, hb, hml, hown, hts, hlk, hr, hlv, hV, het⟩, hfl, hcx⟩ := hX0
  unfold jf_bend_b34 at h
  refine (jx_xb_some h).elim (fun gv1 => ?_) (fun gv1 => ?_)
  · obtain ⟨v1, S2, ev1, h⟩ := gv1
    refine jf_callVS (out := S2) hx hb hml hown hts hlv hV (jf_mayBe_met hfl ev1) jf_mayBe_g_X1 jf_mayBe_d (As := [.int k0]) (Nat.le_of_ble_eq_true rfl) (Nat.le_of_ble_eq_true rfl) hP hS hl.1 rfl rfl (lv_room (Nat.le_of_ble_eq_true rfl)) dX1_bend_34 (fun H locs hP hS => ?_)
    refine lv_aload_n hx hb dX1_bend_37 rfl (lv_at hl 0 rfl) ?_
    refine jf_get hx hb hts in_X1 hown hV hP (ci := 1) (k := 1) jf_o0 rfl (by decide) (hts _ q455) rfl rfl dX1_bend_38 ?_
    refine jf_getN hx hb hts in_X4 hown hV hP (ci := 3) (k := 5) (jf_oP (Or.inl rfl)) rfl (by decide) (jf_l_X1_180 hV.2.2.1) rfl rfl dX1_bend_41 ?_
    refine lv_aload_n hx hb dX1_bend_44 rfl (lv_at hl 0 rfl) ?_
    refine jf_get hx hb hts in_X1 hown hV hP (ci := 1) (k := 1) jf_o0 rfl (by decide) (hts _ q455) rfl rfl dX1_bend_45 ?_
    refine jf_getN hx hb hts in_X4 hown hV hP (ci := 3) (k := 16) (jf_oP (Or.inl rfl)) rfl (by decide) (jf_l_X1_174 hV.2.2.1) rfl rfl dX1_bend_48 ?_
    refine lv_iload_n hx hb dX1_bend_51 rfl (lv_at hl 1 rfl) ?_
    obtain ⟨j3, ej3, bj3, h⟩ := jx_ga_some h
    obtain ⟨S4, eS4, h⟩ := jx_nx_some h
    refine jf_iast hx hb hV hP hS (jf_aP5 (Or.inl rfl)) ej3 bj3 eS4 dX1_bend_52 (fun H locs hP hS => ?_)
    refine lv_aload_n hx hb dX1_bend_53 rfl (lv_at hl 0 rfl) ?_
    refine jf_get hx hb hts in_X1 hown hV hP (ci := 1) (k := 1) jf_o0 rfl (by decide) (hts _ q455) rfl rfl dX1_bend_54 ?_
    refine jf_getN hx hb hts in_X4 hown hV hP (ci := 3) (k := 6) (jf_oP (Or.inl rfl)) rfl (by decide) (jf_l_X1_183 hV.2.2.1) rfl rfl dX1_bend_57 ?_
    refine lv_aload_n hx hb dX1_bend_60 rfl (lv_at hl 0 rfl) ?_
    refine jf_get hx hb hts in_X1 hown hV hP (ci := 1) (k := 1) jf_o0 rfl (by decide) (hts _ q455) rfl rfl dX1_bend_61 ?_
    refine jf_getN hx hb hts in_X4 hown hV hP (ci := 3) (k := 16) (jf_oP (Or.inl rfl)) rfl (by decide) (jf_l_X1_174 hV.2.2.1) rfl rfl dX1_bend_64 ?_
    refine lv_iload_n hx hb dX1_bend_67 rfl (lv_at hl 2 rfl) ?_
    obtain ⟨j5, ej5, bj5, h⟩ := jx_ga_some h
    obtain ⟨S6, eS6, h⟩ := jx_nx_some h
    refine jf_iast hx hb hV hP hS (jf_aP6 (Or.inl rfl)) ej5 bj5 eS6 dX1_bend_68 (fun H locs hP hS => ?_)
    refine lv_aload_n hx hb dX1_bend_69 rfl (lv_at hl 0 rfl) ?_
    refine jf_get hx hb hts in_X1 hown hV hP (ci := 1) (k := 1) jf_o0 rfl (by decide) (hts _ q455) rfl rfl dX1_bend_70 ?_
    refine jf_getN hx hb hts in_X4 hown hV hP (ci := 3) (k := 7) (jf_oP (Or.inl rfl)) rfl (by decide) (jf_l_X1_186 hV.2.2.1) rfl rfl dX1_bend_73 ?_
    refine lv_aload_n hx hb dX1_bend_76 rfl (lv_at hl 0 rfl) ?_
    refine jf_get hx hb hts in_X1 hown hV hP (ci := 1) (k := 1) jf_o0 rfl (by decide) (hts _ q455) rfl rfl dX1_bend_77 ?_
    refine jf_getN hx hb hts in_X4 hown hV hP (ci := 3) (k := 16) (jf_oP (Or.inl rfl)) rfl (by decide) (jf_l_X1_174 hV.2.2.1) rfl rfl dX1_bend_80 ?_
    refine lv_iload_n hx hb dX1_bend_83 rfl (lv_at hl 3 rfl) ?_
    obtain ⟨j7, ej7, bj7, h⟩ := jx_ga_some h
    obtain ⟨S8, eS8, h⟩ := jx_nx_some h
    refine jf_iast hx hb hV hP hS (jf_aP7 (Or.inl rfl)) ej7 bj7 eS8 dX1_bend_84 (fun H locs hP hS => ?_)
    refine lv_aload_n hx hb dX1_bend_85 rfl (lv_at hl 0 rfl) ?_
    refine jf_get hx hb hts in_X1 hown hV hP (ci := 1) (k := 1) jf_o0 rfl (by decide) (hts _ q455) rfl rfl dX1_bend_86 ?_
    refine lv_dup hx hb dX1_bend_89 rfl ?_
    refine jf_getN hx hb hts in_X4 hown hV hP (ci := 3) (k := 16) (jf_oP (Or.inl rfl)) rfl (by decide) (jf_l_X1_174 hV.2.2.1) rfl rfl dX1_bend_90 ?_
    refine lv_iconst hx hb dX1_bend_93 jx_ki1 ?_
    refine lv_iadd hx hb dX1_bend_94 ?_
    obtain ⟨S9, eS9, h⟩ := jx_nx_some h
    refine jf_putN (S1 := S9) hx hb hts in_X4 tyX4_ok nmX4 hown hV hP hS (ci := 3) (k := 16) (by rw [eS9]; rfl) (jf_oP (Or.inl rfl)) (by rw [eS9]; exact (jf_sP16 (Or.inl rfl)) _) rfl (by decide) (jf_l_X1_174 hV.2.2.1) rfl rfl (tyX4_ok 16 (by decide)) ⟨rfl, rfl⟩ (Nat.le_of_ble_eq_true rfl) dX1_bend_95 (fun H locs hP hS => ?_)
    refine lv_aload_n hx hb dX1_bend_98 rfl (lv_at hl 0 rfl) ?_
    refine jf_get hx hb hts in_X1 hown hV hP (ci := 1) (k := 1) jf_o0 rfl (by decide) (hts _ q455) rfl rfl dX1_bend_99 ?_
    refine jf_getN hx hb hts in_X4 hown hV hP (ci := 3) (k := 16) (jf_oP (Or.inl rfl)) rfl (by decide) (jf_l_X1_174 hV.2.2.1) rfl rfl dX1_bend_102 ?_
    refine lv_iconst hx hb dX1_bend_105 jx_ki1 ?_
    refine lv_isub hx hb dX1_bend_106 ?_
    exact jf_xiret hx hb hr hlk hV hP hS h dX1_bend_107
  · obtain ⟨v1, S2, ev1, ho⟩ := gv1
    subst ho
    exact jf_outS (S1 := S2) (k := v1) hx hb hml hown hts hlv hV het hlk (jf_mayBe_met hfl ev1) jf_mayBe_g_X1 jf_mayBe_d (As := [.int k0]) (Nat.le_of_ble_eq_true rfl) (Nat.le_of_ble_eq_true rfl) (hcx _ rfl) hP hS hl.1 rfl rfl (lv_room (Nat.le_of_ble_eq_true rfl)) dX1_bend_34
theorem jf_bend_ok {out : (Int32 ⊕ Nat) × jf_S} (hX : jf_OkX RX1 l p R s m args meth c A D E cX1_bend 4 (some .int) 8 out) (F : Nat) (x1 : Int32) (x2 : Int32) (x3 : Int32) (S : jf_S) (h : jf_bend F x1 x2 x3 S = some out) : jf_J p l e R s m args below meth c A D E fo pl 4 (jf_QXi below args s A D E fo pl out) 0 [(0, .ref (E.1 0)), (1, .int x1), (2, .int x2), (3, .int x3)] [] S := by
  intro H locs ls hP hS hl
  have hX0 := hX
  obtain ⟨⟨hx, hb, hml, hown, hts, hlk, hr, hlv, hV, het⟩, hfl, hcx⟩ := hX0
  unfold jf_bend at h
  refine lv_iload_n hx hb dX1_bend_0 rfl (lv_at hl 2 rfl) ?_
  refine lv_bipush hx hb dX1_bend_1 jx_kb17 ?_
  refine (jx_xb_some h).elim (fun gv1 => ?_) (fun gv1 => ?_)
  · obtain ⟨v1, S2, ev1, h⟩ := gv1
    refine jf_callVS (out := S2) hx hb hml hown hts hlv hV (jf_isCell_met hfl ev1) jf_isCell_g_X1 jf_isCell_d (As := [.int x2, .int (nI 17)]) (Nat.le_of_ble_eq_true rfl) (Nat.le_of_ble_eq_true rfl) hP hS hl.1 rfl rfl (lv_room (Nat.le_of_ble_eq_true rfl)) dX1_bend_3 (fun H locs hP hS => ?_)
    refine lv_iload_n hx hb dX1_bend_6 rfl (lv_at hl 1 rfl) ?_
    refine lv_iconst hx hb dX1_bend_7 jx_ki0 ?_
    refine lv_sipush hx hb dX1_bend_8 jx_ks299 ?_
    obtain ⟨q3, eq3, h⟩ := jx_bi_some h
    refine jx_callSi hx hb hml hown hts (jf_isIn_met eq3) jf_isIn_g_X1 jf_isIn_d (As := [.int x1, .int (nI 0), .int (nI 299)]) (⟨Nat.le_trans (Nat.le_of_ble_eq_true rfl) hlv.1, Nat.le_trans (Nat.le_of_ble_eq_true rfl) hlv.2⟩) hl.1 rfl rfl (lv_room (Nat.le_of_ble_eq_true rfl)) dX1_bend_11 ⟨Nat.zero_le _, Nat.zero_le _⟩ ?_
    refine (jx_xb_some h).elim (fun gv4 => ?_) (fun gv4 => ?_)
    · obtain ⟨v4, S5, ev4, h⟩ := gv4
      refine jf_callVS (out := S5) hx hb hml hown hts hlv hV (jf_must_met hfl ev4) jf_must_g_X1 jf_must_d (As := [.int q3]) (Nat.le_of_ble_eq_true rfl) (Nat.le_of_ble_eq_true rfl) hP hS hl.1 rfl rfl (lv_room (Nat.le_of_ble_eq_true rfl)) dX1_bend_14 (fun H locs hP hS => ?_)
      refine lv_aload_n hx hb dX1_bend_17 rfl (lv_at hl 0 rfl) ?_
      refine jf_get hx hb hts in_X1 hown hV hP (ci := 1) (k := 1) jf_o0 rfl (by decide) (hts _ q455) rfl rfl dX1_bend_18 ?_
      refine jf_getN hx hb hts in_X4 hown hV hP (ci := 3) (k := 16) (jf_oP (Or.inl rfl)) rfl (by decide) (jf_l_X1_174 hV.2.2.1) rfl rfl dX1_bend_21 ?_
      refine lv_bipush hx hb dX1_bend_24 jx_kb8 ?_
      refine lv_icmp_ge (tgt := 33) hx hb dX1_bend_26 rfl (fun c6 => ?_) (fun c6 => ?_)
      · rw [if_pos c6] at h
        refine lv_iconst hx hb dX1_bend_33 jx_ki0 ?_
        exact jf_bend_b34_ok hX F _ _ _ _ _ h _ _ _ hP hS hl
      · rw [if_neg c6] at h
        refine lv_iconst hx hb dX1_bend_29 jx_ki1 ?_
        refine lv_goto (tgt := 34) hx hb dX1_bend_30 rfl ?_
        exact jf_bend_b34_ok hX F _ _ _ _ _ h _ _ _ hP hS hl
    · obtain ⟨v4, S5, ev4, ho⟩ := gv4
      subst ho
      exact jf_outS (S1 := S5) (k := v4) hx hb hml hown hts hlv hV het hlk (jf_must_met hfl ev4) jf_must_g_X1 jf_must_d (As := [.int q3]) (Nat.le_of_ble_eq_true rfl) (Nat.le_of_ble_eq_true rfl) (hcx _ rfl) hP hS hl.1 rfl rfl (lv_room (Nat.le_of_ble_eq_true rfl)) dX1_bend_14
  · obtain ⟨v1, S2, ev1, ho⟩ := gv1
    subst ho
    exact jf_outS (S1 := S2) (k := v1) hx hb hml hown hts hlv hV het hlk (jf_isCell_met hfl ev1) jf_isCell_g_X1 jf_isCell_d (As := [.int x2, .int (nI 17)]) (Nat.le_of_ble_eq_true rfl) (Nat.le_of_ble_eq_true rfl) (hcx _ rfl) hP hS hl.1 rfl rfl (lv_room (Nat.le_of_ble_eq_true rfl)) dX1_bend_3
theorem jf_bend_met {l : Launch} {D : va_G} {E : jf_E} {A : Nat → Prop} {fo : Nat → Nat → Option Nat} {pl : va_W} {F : Nat} (hfl : l.flags = flags0) {x1 : Int32} {x2 : Int32} {x3 : Int32} {S : jf_S} {out : (Int32 ⊕ Nat) × jf_S} (h : jf_bend F x1 x2 x3 S = some out) : jf_MXi l D E A fo pl yX1_bend cX1_bend 4 (some .int) 8 [.ref (E.1 0), .int x1, .int x2, .int x3] S out :=
  jf_MXi_of hfl (own := RX1) ⟨by decide, rfl, Nat.le_of_ble_eq_true rfl⟩ (fun hX => jf_bend_ok hX F x1 x2 x3 S h)
theorem jf_run_d : yX1_run.cls = RX1 ∧ yX1_run.cls ≠ "java/lang/invoke/MethodHandle" ∧ yX1_run.cls ≠ "java/lang/invoke/VarHandle" ∧ (parseMethodDescriptor yX1_run.desc).map (fun d => d.parameters.length) = some 2 := by decide +kernel
theorem jf_run_ok {out : (Int32 ⊕ Nat) × jf_S} (hX : jf_OkX RX1 l p R s m args meth c A D E cX1_run 3 (some .int) 8 out) (F : Nat) (x1 : Int32) (x2 : Int32) (S : jf_S) (h : jf_run F x1 x2 S = some out) : jf_J p l e R s m args below meth c A D E fo pl 3 (jf_QXi below args s A D E fo pl out) 0 [(0, .ref (E.1 0)), (1, .int x1), (2, .int x2)] [] S := by
  intro H locs ls hP hS hl
  have hX0 := hX
  obtain ⟨⟨hx, hb, hml, hown, hts, hlk, hr, hlv, hV, het⟩, hfl, hcx⟩ := hX0
  unfold jf_run at h
  refine lv_iload_n hx hb dX1_run_0 rfl (lv_at hl 2 rfl) ?_
  refine lv_iconst hx hb dX1_run_1 jx_ki0 ?_
  refine lv_bipush hx hb dX1_run_2 jx_kb7 ?_
  obtain ⟨q1, eq1, h⟩ := jx_bi_some h
  refine jx_callSi hx hb hml hown hts (jf_isIn_met eq1) jf_isIn_g_X1 jf_isIn_d (As := [.int x2, .int (nI 0), .int (nI 7)]) (⟨Nat.le_trans (Nat.le_of_ble_eq_true rfl) hlv.1, Nat.le_trans (Nat.le_of_ble_eq_true rfl) hlv.2⟩) hl.1 rfl rfl (lv_room (Nat.le_of_ble_eq_true rfl)) dX1_run_4 ⟨Nat.zero_le _, Nat.zero_le _⟩ ?_
  refine (jx_xb_some h).elim (fun gv2 => ?_) (fun gv2 => ?_)
  · obtain ⟨v2, S3, ev2, h⟩ := gv2
    refine jf_callVS (out := S3) hx hb hml hown hts hlv hV (jf_thereIs_met hfl ev2) jf_thereIs_g_X1 jf_thereIs_d (As := [.int q1]) (Nat.le_of_ble_eq_true rfl) (Nat.le_of_ble_eq_true rfl) hP hS hl.1 rfl rfl (lv_room (Nat.le_of_ble_eq_true rfl)) dX1_run_7 (fun H locs hP hS => ?_)
    refine lv_aload_n hx hb dX1_run_10 rfl (lv_at hl 0 rfl) ?_
    refine jf_get hx hb hts in_X1 hown hV hP (ci := 1) (k := 3) jf_o0 rfl (by decide) (hts _ q457) rfl rfl dX1_run_11 ?_
    refine lv_iload_n hx hb dX1_run_14 rfl (lv_at hl 1 rfl) ?_
    refine lv_iconst hx hb dX1_run_15 jx_ki1 ?_
    obtain ⟨q4, eq4, h⟩ := jx_bi_some h
    refine jf_callV hx hb hml hown hts hlv hV (jk_runs_met eq4) jk_runs_g_X1 jk_runs_d (As := [.int x1, .int (nI 1)]) (Nat.le_of_ble_eq_true rfl) (Nat.le_of_ble_eq_true rfl) hP hS (ci := 4) jf_o5 rfl hl.1 rfl rfl (lv_room (Nat.le_of_ble_eq_true rfl)) dX1_run_16 (fun H locs hP hS => ?_)
    refine lv_iload_n hx hb dX1_run_19 rfl (lv_at hl 2 rfl) ?_
    by_cases sw20_0 : x2 = nI 0
    · rw [if_pos sw20_0] at h
      refine lv_tableIn (tgt := 64) (off := 44) hx hb dX1_run_20 (by rw [sw20_0]; decide) (by rw [sw20_0]; decide) (by rw [sw20_0]; decide) rfl ?_
      refine lv_aload_n hx hb dX1_run_64 rfl (lv_at hl 0 rfl) ?_
      refine jf_get hx hb hts in_X1 hown hV hP (ci := 1) (k := 3) jf_o0 rfl (by decide) (hts _ q457) rfl rfl dX1_run_65 ?_
      refine jf_getN hx hb hts in_X5 hown hV hP (ci := 4) (k := 14) jf_o5 rfl (by decide) (jf_l_X1_196 hV.2.2.1) rfl rfl dX1_run_68 ?_
      exact jf_xiret hx hb hr hlk hV hP hS h dX1_run_71
    · rw [if_neg sw20_0] at h
      by_cases sw20_1 : x2 = nI 1
      · rw [if_pos sw20_1] at h
        refine lv_tableIn (tgt := 72) (off := 52) hx hb dX1_run_20 (by rw [sw20_1]; decide) (by rw [sw20_1]; decide) (by rw [sw20_1]; decide) rfl ?_
        refine lv_aload_n hx hb dX1_run_72 rfl (lv_at hl 0 rfl) ?_
        refine jf_get hx hb hts in_X1 hown hV hP (ci := 1) (k := 3) jf_o0 rfl (by decide) (hts _ q457) rfl rfl dX1_run_73 ?_
        refine jf_getN hx hb hts in_X5 hown hV hP (ci := 4) (k := 10) jf_o5 rfl (by decide) (jf_l_X1_199 hV.2.2.1) rfl rfl dX1_run_76 ?_
        exact jf_xiret hx hb hr hlk hV hP hS h dX1_run_79
      · rw [if_neg sw20_1] at h
        by_cases sw20_2 : x2 = nI 2
        · rw [if_pos sw20_2] at h
          refine lv_tableIn (tgt := 80) (off := 60) hx hb dX1_run_20 (by rw [sw20_2]; decide) (by rw [sw20_2]; decide) (by rw [sw20_2]; decide) rfl ?_
          refine lv_aload_n hx hb dX1_run_80 rfl (lv_at hl 0 rfl) ?_
          refine jf_get hx hb hts in_X1 hown hV hP (ci := 1) (k := 3) jf_o0 rfl (by decide) (hts _ q457) rfl rfl dX1_run_81 ?_
          refine jf_getN hx hb hts in_X5 hown hV hP (ci := 4) (k := 11) jf_o5 rfl (by decide) (jf_l_X1_202 hV.2.2.1) rfl rfl dX1_run_84 ?_
          exact jf_xiret hx hb hr hlk hV hP hS h dX1_run_87
        · rw [if_neg sw20_2] at h
          by_cases sw20_3 : x2 = nI 3
          · rw [if_pos sw20_3] at h
            refine lv_tableIn (tgt := 88) (off := 68) hx hb dX1_run_20 (by rw [sw20_3]; decide) (by rw [sw20_3]; decide) (by rw [sw20_3]; decide) rfl ?_
            refine lv_aload_n hx hb dX1_run_88 rfl (lv_at hl 0 rfl) ?_
            refine jf_get hx hb hts in_X1 hown hV hP (ci := 1) (k := 3) jf_o0 rfl (by decide) (hts _ q457) rfl rfl dX1_run_89 ?_
            refine jf_getN hx hb hts in_X5 hown hV hP (ci := 4) (k := 9) jf_o5 rfl (by decide) (jf_l_X1_204 hV.2.2.1) rfl rfl dX1_run_92 ?_
            exact jf_xiret hx hb hr hlk hV hP hS h dX1_run_95
          · rw [if_neg sw20_3] at h
            by_cases sw20_4 : x2 = nI 4
            · rw [if_pos sw20_4] at h
              refine lv_tableIn (tgt := 96) (off := 76) hx hb dX1_run_20 (by rw [sw20_4]; decide) (by rw [sw20_4]; decide) (by rw [sw20_4]; decide) rfl ?_
              refine lv_aload_n hx hb dX1_run_96 rfl (lv_at hl 0 rfl) ?_
              refine jf_get hx hb hts in_X1 hown hV hP (ci := 1) (k := 3) jf_o0 rfl (by decide) (hts _ q457) rfl rfl dX1_run_97 ?_
              refine jf_getN hx hb hts in_X5 hown hV hP (ci := 4) (k := 12) jf_o5 rfl (by decide) (jf_l_X1_207 hV.2.2.1) rfl rfl dX1_run_100 ?_
              exact jf_xiret hx hb hr hlk hV hP hS h dX1_run_103
            · rw [if_neg sw20_4] at h
              by_cases sw20_5 : x2 = nI 5
              · rw [if_pos sw20_5] at h
                refine lv_tableIn (tgt := 104) (off := 84) hx hb dX1_run_20 (by rw [sw20_5]; decide) (by rw [sw20_5]; decide) (by rw [sw20_5]; decide) rfl ?_
                refine lv_aload_n hx hb dX1_run_104 rfl (lv_at hl 0 rfl) ?_
                refine jf_get hx hb hts in_X1 hown hV hP (ci := 1) (k := 3) jf_o0 rfl (by decide) (hts _ q457) rfl rfl dX1_run_105 ?_
                refine jf_getN hx hb hts in_X5 hown hV hP (ci := 4) (k := 13) jf_o5 rfl (by decide) (jf_l_X1_210 hV.2.2.1) rfl rfl dX1_run_108 ?_
                exact jf_xiret hx hb hr hlk hV hP hS h dX1_run_111
              · rw [if_neg sw20_5] at h
                by_cases sw20_6 : x2 = nI 6
                · rw [if_pos sw20_6] at h
                  refine lv_tableIn (tgt := 112) (off := 92) hx hb dX1_run_20 (by rw [sw20_6]; decide) (by rw [sw20_6]; decide) (by rw [sw20_6]; decide) rfl ?_
                  refine lv_aload_n hx hb dX1_run_112 rfl (lv_at hl 0 rfl) ?_
                  refine jf_get hx hb hts in_X1 hown hV hP (ci := 1) (k := 3) jf_o0 rfl (by decide) (hts _ q457) rfl rfl dX1_run_113 ?_
                  refine jf_getN hx hb hts in_X5 hown hV hP (ci := 4) (k := 15) jf_o5 rfl (by decide) (jf_l_X1_213 hV.2.2.1) rfl rfl dX1_run_116 ?_
                  exact jf_xiret hx hb hr hlk hV hP hS h dX1_run_119
                · rw [if_neg sw20_6] at h
                  refine lv_tableOut (tgt := 120) hx hb dX1_run_20 (jx_sw7 sw20_0 sw20_1 sw20_2 sw20_3 sw20_4 sw20_5 sw20_6) rfl ?_
                  refine lv_aload_n hx hb dX1_run_120 rfl (lv_at hl 0 rfl) ?_
                  refine jf_get hx hb hts in_X1 hown hV hP (ci := 1) (k := 3) jf_o0 rfl (by decide) (hts _ q457) rfl rfl dX1_run_121 ?_
                  refine jf_getN hx hb hts in_X5 hown hV hP (ci := 4) (k := 16) jf_o5 rfl (by decide) (jf_l_X1_216 hV.2.2.1) rfl rfl dX1_run_124 ?_
                  exact jf_xiret hx hb hr hlk hV hP hS h dX1_run_127
  · obtain ⟨v2, S3, ev2, ho⟩ := gv2
    subst ho
    exact jf_outS (S1 := S3) (k := v2) hx hb hml hown hts hlv hV het hlk (jf_thereIs_met hfl ev2) jf_thereIs_g_X1 jf_thereIs_d (As := [.int q1]) (Nat.le_of_ble_eq_true rfl) (Nat.le_of_ble_eq_true rfl) (hcx _ rfl) hP hS hl.1 rfl rfl (lv_room (Nat.le_of_ble_eq_true rfl)) dX1_run_7
theorem jf_run_met {l : Launch} {D : va_G} {E : jf_E} {A : Nat → Prop} {fo : Nat → Nat → Option Nat} {pl : va_W} {F : Nat} (hfl : l.flags = flags0) {x1 : Int32} {x2 : Int32} {S : jf_S} {out : (Int32 ⊕ Nat) × jf_S} (h : jf_run F x1 x2 S = some out) : jf_MXi l D E A fo pl yX1_run cX1_run 3 (some .int) 8 [.ref (E.1 0), .int x1, .int x2] S out :=
  jf_MXi_of hfl (own := RX1) ⟨by decide, rfl, Nat.le_of_ble_eq_true rfl⟩ (fun hX => jf_run_ok hX F x1 x2 S h)
theorem jf_cell_d : yX1_cell.cls = RX1 ∧ yX1_cell.cls ≠ "java/lang/invoke/MethodHandle" ∧ yX1_cell.cls ≠ "java/lang/invoke/VarHandle" ∧ (parseMethodDescriptor yX1_cell.desc).map (fun d => d.parameters.length) = some 2 := by decide +kernel
theorem jf_cell_ok {out : (Int32 ⊕ Nat) × jf_S} (hX : jf_OkX RX1 l p R s m args meth c A D E cX1_cell 3 (some .int) 8 out) (F : Nat) (x1 : Int32) (x2 : Int32) (S : jf_S) (h : jf_cell F x1 x2 S = some out) : jf_J p l e R s m args below meth c A D E fo pl 3 (jf_QXi below args s A D E fo pl out) 0 [(0, .ref (E.1 0)), (1, .int x1), (2, .int x2)] [] S := by
  intro H locs ls hP hS hl
  have hX0 := hX
  obtain ⟨⟨hx, hb, hml, hown, hts, hlk, hr, hlv, hV, het⟩, hfl, hcx⟩ := hX0
  unfold jf_cell at h
  refine lv_iload_n hx hb dX1_cell_0 rfl (lv_at hl 2 rfl) ?_
  refine lv_bipush hx hb dX1_cell_1 jx_kb16 ?_
  refine (jx_xb_some h).elim (fun gv1 => ?_) (fun gv1 => ?_)
  · obtain ⟨v1, S2, ev1, h⟩ := gv1
    refine jf_callVS (out := S2) hx hb hml hown hts hlv hV (jf_isCell_met hfl ev1) jf_isCell_g_X1 jf_isCell_d (As := [.int x2, .int (nI 16)]) (Nat.le_of_ble_eq_true rfl) (Nat.le_of_ble_eq_true rfl) hP hS hl.1 rfl rfl (lv_room (Nat.le_of_ble_eq_true rfl)) dX1_cell_3 (fun H locs hP hS => ?_)
    refine lv_aload_n hx hb dX1_cell_6 rfl (lv_at hl 0 rfl) ?_
    refine jf_get hx hb hts in_X1 hown hV hP (ci := 1) (k := 3) jf_o0 rfl (by decide) (hts _ q457) rfl rfl dX1_cell_7 ?_
    refine lv_iload_n hx hb dX1_cell_10 rfl (lv_at hl 1 rfl) ?_
    refine lv_iconst hx hb dX1_cell_11 jx_ki1 ?_
    obtain ⟨q3, eq3, h⟩ := jx_bi_some h
    refine jf_callV hx hb hml hown hts hlv hV (jk_runs_met eq3) jk_runs_g_X1 jk_runs_d (As := [.int x1, .int (nI 1)]) (Nat.le_of_ble_eq_true rfl) (Nat.le_of_ble_eq_true rfl) hP hS (ci := 4) jf_o5 rfl hl.1 rfl rfl (lv_room (Nat.le_of_ble_eq_true rfl)) dX1_cell_12 (fun H locs hP hS => ?_)
    refine lv_aload_n hx hb dX1_cell_15 rfl (lv_at hl 0 rfl) ?_
    refine jf_get hx hb hts in_X1 hown hV hP (ci := 1) (k := 3) jf_o0 rfl (by decide) (hts _ q457) rfl rfl dX1_cell_16 ?_
    refine jf_getN hx hb hts in_X5 hown hV hP (ci := 4) (k := 1) jf_o5 rfl (by decide) (jf_l_X1_226 hV.2.2.1) rfl rfl dX1_cell_19 ?_
    refine lv_iload_n hx hb dX1_cell_22 rfl (lv_at hl 2 rfl) ?_
    obtain ⟨j4, ej4, bj4, h⟩ := jx_ga_some h
    refine jf_iald hx hb hV hP jf_a5_1 ej4 bj4 dX1_cell_23 ?_
    exact jf_xiret hx hb hr hlk hV hP hS h dX1_cell_24
  · obtain ⟨v1, S2, ev1, ho⟩ := gv1
    subst ho
    exact jf_outS (S1 := S2) (k := v1) hx hb hml hown hts hlv hV het hlk (jf_isCell_met hfl ev1) jf_isCell_g_X1 jf_isCell_d (As := [.int x2, .int (nI 16)]) (Nat.le_of_ble_eq_true rfl) (Nat.le_of_ble_eq_true rfl) (hcx _ rfl) hP hS hl.1 rfl rfl (lv_room (Nat.le_of_ble_eq_true rfl)) dX1_cell_3
theorem jf_cell_met {l : Launch} {D : va_G} {E : jf_E} {A : Nat → Prop} {fo : Nat → Nat → Option Nat} {pl : va_W} {F : Nat} (hfl : l.flags = flags0) {x1 : Int32} {x2 : Int32} {S : jf_S} {out : (Int32 ⊕ Nat) × jf_S} (h : jf_cell F x1 x2 S = some out) : jf_MXi l D E A fo pl yX1_cell cX1_cell 3 (some .int) 8 [.ref (E.1 0), .int x1, .int x2] S out :=
  jf_MXi_of hfl (own := RX1) ⟨by decide, rfl, Nat.le_of_ble_eq_true rfl⟩ (fun hX => jf_cell_ok hX F x1 x2 S h)
theorem jf_power_d : yX1_power.cls = RX1 ∧ yX1_power.cls ≠ "java/lang/invoke/MethodHandle" ∧ yX1_power.cls ≠ "java/lang/invoke/VarHandle" ∧ (parseMethodDescriptor yX1_power.desc).map (fun d => d.parameters.length) = some 2 := by decide +kernel
theorem jf_power_b27_ok {out : (Int32 ⊕ Nat) × jf_S} (hX : jf_OkX RX1 l p R s m args meth c A D E cX1_power 3 (some .int) 7 out) (F : Nat) (x1 : Int32) (x2 : Int32) (k0 : Int32) (S : jf_S) (h : jf_power_b27 F x1 x2 k0 S = some out) : jf_J p l e R s m args below meth c A D E fo pl 3 (jf_QXi below args s A D E fo pl out) 27 [(0, .ref (E.1 0)), (1, .int x1), (2, .int x2)] [.int k0] S := by
  intro H locs ls hP hS hl
  have hX0 := hX
  obtain ⟨⟨hx, hb, hml, hown, hts, hlk, hr, hlv, hV, het⟩, hfl, hcx⟩ := hX0
  unfold jf_power_b27 at h
  refine (jx_xb_some h).elim (fun gv1 => ?_) (fun gv1 => ?_)
  · obtain ⟨v1, S2, ev1, h⟩ := gv1
    refine jf_callVS (out := S2) hx hb hml hown hts hlv hV (jf_mayBe_met hfl ev1) jf_mayBe_g_X1 jf_mayBe_d (As := [.int k0]) (Nat.le_of_ble_eq_true rfl) (Nat.le_of_ble_eq_true rfl) hP hS hl.1 rfl rfl (lv_room (Nat.le_of_ble_eq_true rfl)) dX1_power_27 (fun H locs hP hS => ?_)
    refine lv_aload_n hx hb dX1_power_30 rfl (lv_at hl 0 rfl) ?_
    refine jf_get hx hb hts in_X1 hown hV hP (ci := 1) (k := 1) jf_o0 rfl (by decide) (hts _ q455) rfl rfl dX1_power_31 ?_
    refine jf_getN hx hb hts in_X4 hown hV hP (ci := 3) (k := 3) (jf_oP (Or.inl rfl)) rfl (by decide) (jf_l_X1_230 hV.2.2.1) rfl rfl dX1_power_34 ?_
    refine lv_aload_n hx hb dX1_power_37 rfl (lv_at hl 0 rfl) ?_
    refine jf_get hx hb hts in_X1 hown hV hP (ci := 1) (k := 1) jf_o0 rfl (by decide) (hts _ q455) rfl rfl dX1_power_38 ?_
    refine jf_getN hx hb hts in_X4 hown hV hP (ci := 3) (k := 14) (jf_oP (Or.inl rfl)) rfl (by decide) (jf_l_X1_98 hV.2.2.1) rfl rfl dX1_power_41 ?_
    refine lv_iload_n hx hb dX1_power_44 rfl (lv_at hl 1 rfl) ?_
    obtain ⟨j3, ej3, bj3, h⟩ := jx_ga_some h
    obtain ⟨S4, eS4, h⟩ := jx_nx_some h
    refine jf_iast hx hb hV hP hS (jf_aP3 (Or.inl rfl)) ej3 bj3 eS4 dX1_power_45 (fun H locs hP hS => ?_)
    refine lv_aload_n hx hb dX1_power_46 rfl (lv_at hl 0 rfl) ?_
    refine jf_get hx hb hts in_X1 hown hV hP (ci := 1) (k := 1) jf_o0 rfl (by decide) (hts _ q455) rfl rfl dX1_power_47 ?_
    refine jf_getN hx hb hts in_X4 hown hV hP (ci := 3) (k := 8) (jf_oP (Or.inl rfl)) rfl (by decide) (jf_l_X1_233 hV.2.2.1) rfl rfl dX1_power_50 ?_
    refine lv_aload_n hx hb dX1_power_53 rfl (lv_at hl 0 rfl) ?_
    refine jf_get hx hb hts in_X1 hown hV hP (ci := 1) (k := 1) jf_o0 rfl (by decide) (hts _ q455) rfl rfl dX1_power_54 ?_
    refine jf_getN hx hb hts in_X4 hown hV hP (ci := 3) (k := 14) (jf_oP (Or.inl rfl)) rfl (by decide) (jf_l_X1_98 hV.2.2.1) rfl rfl dX1_power_57 ?_
    refine lv_iload_n hx hb dX1_power_60 rfl (lv_at hl 2 rfl) ?_
    obtain ⟨j5, ej5, bj5, h⟩ := jx_ga_some h
    obtain ⟨S6, eS6, h⟩ := jx_nx_some h
    refine jf_zast hx hb hV hP hS (jf_aP8 (Or.inl rfl)) ej5 bj5 eS6 dX1_power_61 (fun H locs hP hS => ?_)
    refine lv_aload_n hx hb dX1_power_62 rfl (lv_at hl 0 rfl) ?_
    refine jf_get hx hb hts in_X1 hown hV hP (ci := 1) (k := 1) jf_o0 rfl (by decide) (hts _ q455) rfl rfl dX1_power_63 ?_
    refine lv_dup hx hb dX1_power_66 rfl ?_
    refine jf_getN hx hb hts in_X4 hown hV hP (ci := 3) (k := 14) (jf_oP (Or.inl rfl)) rfl (by decide) (jf_l_X1_98 hV.2.2.1) rfl rfl dX1_power_67 ?_
    refine lv_iconst hx hb dX1_power_70 jx_ki1 ?_
    refine lv_iadd hx hb dX1_power_71 ?_
    obtain ⟨S7, eS7, h⟩ := jx_nx_some h
    refine jf_putN (S1 := S7) hx hb hts in_X4 tyX4_ok nmX4 hown hV hP hS (ci := 3) (k := 14) (by rw [eS7]; rfl) (jf_oP (Or.inl rfl)) (by rw [eS7]; exact (jf_sP14 (Or.inl rfl)) _) rfl (by decide) (jf_l_X1_98 hV.2.2.1) rfl rfl (tyX4_ok 14 (by decide)) ⟨rfl, rfl⟩ (Nat.le_of_ble_eq_true rfl) dX1_power_72 (fun H locs hP hS => ?_)
    refine lv_aload_n hx hb dX1_power_75 rfl (lv_at hl 0 rfl) ?_
    refine jf_get hx hb hts in_X1 hown hV hP (ci := 1) (k := 1) jf_o0 rfl (by decide) (hts _ q455) rfl rfl dX1_power_76 ?_
    refine jf_getN hx hb hts in_X4 hown hV hP (ci := 3) (k := 14) (jf_oP (Or.inl rfl)) rfl (by decide) (jf_l_X1_98 hV.2.2.1) rfl rfl dX1_power_79 ?_
    refine lv_iconst hx hb dX1_power_82 jx_ki1 ?_
    refine lv_isub hx hb dX1_power_83 ?_
    exact jf_xiret hx hb hr hlk hV hP hS h dX1_power_84
  · obtain ⟨v1, S2, ev1, ho⟩ := gv1
    subst ho
    exact jf_outS (S1 := S2) (k := v1) hx hb hml hown hts hlv hV het hlk (jf_mayBe_met hfl ev1) jf_mayBe_g_X1 jf_mayBe_d (As := [.int k0]) (Nat.le_of_ble_eq_true rfl) (Nat.le_of_ble_eq_true rfl) (hcx _ rfl) hP hS hl.1 rfl rfl (lv_room (Nat.le_of_ble_eq_true rfl)) dX1_power_27
theorem jf_power_ok {out : (Int32 ⊕ Nat) × jf_S} (hX : jf_OkX RX1 l p R s m args meth c A D E cX1_power 3 (some .int) 7 out) (F : Nat) (x1 : Int32) (x2 : Int32) (S : jf_S) (h : jf_power F x1 x2 S = some out) : jf_J p l e R s m args below meth c A D E fo pl 3 (jf_QXi below args s A D E fo pl out) 0 [(0, .ref (E.1 0)), (1, .int x1), (2, .int x2)] [] S := by
  intro H locs ls hP hS hl
  have hX0 := hX
  obtain ⟨⟨hx, hb, hml, hown, hts, hlk, hr, hlv, hV, het⟩, hfl, hcx⟩ := hX0
  unfold jf_power at h
  refine lv_iload_n hx hb dX1_power_0 rfl (lv_at hl 1 rfl) ?_
  refine lv_iconst hx hb dX1_power_1 jx_ki0 ?_
  refine lv_ldc hx hb hown (hts _ q1434) dX1_power_2 ?_
  obtain ⟨q1, eq1, h⟩ := jx_bi_some h
  refine jx_callSi hx hb hml hown hts (jf_isIn_met eq1) jf_isIn_g_X1 jf_isIn_d (As := [.int x1, .int (nI 0), .int (65535 : Int32)]) (⟨Nat.le_trans (Nat.le_of_ble_eq_true rfl) hlv.1, Nat.le_trans (Nat.le_of_ble_eq_true rfl) hlv.2⟩) hl.1 rfl rfl (lv_room (Nat.le_of_ble_eq_true rfl)) dX1_power_4 ⟨Nat.zero_le _, Nat.zero_le _⟩ ?_
  refine (jx_xb_some h).elim (fun gv2 => ?_) (fun gv2 => ?_)
  · obtain ⟨v2, S3, ev2, h⟩ := gv2
    refine jf_callVS (out := S3) hx hb hml hown hts hlv hV (jf_must_met hfl ev2) jf_must_g_X1 jf_must_d (As := [.int q1]) (Nat.le_of_ble_eq_true rfl) (Nat.le_of_ble_eq_true rfl) hP hS hl.1 rfl rfl (lv_room (Nat.le_of_ble_eq_true rfl)) dX1_power_7 (fun H locs hP hS => ?_)
    refine lv_aload_n hx hb dX1_power_10 rfl (lv_at hl 0 rfl) ?_
    refine jf_get hx hb hts in_X1 hown hV hP (ci := 1) (k := 1) jf_o0 rfl (by decide) (hts _ q455) rfl rfl dX1_power_11 ?_
    refine jf_getN hx hb hts in_X4 hown hV hP (ci := 3) (k := 14) (jf_oP (Or.inl rfl)) rfl (by decide) (jf_l_X1_98 hV.2.2.1) rfl rfl dX1_power_14 ?_
    refine lv_bipush hx hb dX1_power_17 jx_kb6 ?_
    refine lv_icmp_ge (tgt := 26) hx hb dX1_power_19 rfl (fun c4 => ?_) (fun c4 => ?_)
    · rw [if_pos c4] at h
      refine lv_iconst hx hb dX1_power_26 jx_ki0 ?_
      exact jf_power_b27_ok hX F _ _ _ _ h _ _ _ hP hS hl
    · rw [if_neg c4] at h
      refine lv_iconst hx hb dX1_power_22 jx_ki1 ?_
      refine lv_goto (tgt := 27) hx hb dX1_power_23 rfl ?_
      exact jf_power_b27_ok hX F _ _ _ _ h _ _ _ hP hS hl
  · obtain ⟨v2, S3, ev2, ho⟩ := gv2
    subst ho
    exact jf_outS (S1 := S3) (k := v2) hx hb hml hown hts hlv hV het hlk (jf_must_met hfl ev2) jf_must_g_X1 jf_must_d (As := [.int q1]) (Nat.le_of_ble_eq_true rfl) (Nat.le_of_ble_eq_true rfl) (hcx _ rfl) hP hS hl.1 rfl rfl (lv_room (Nat.le_of_ble_eq_true rfl)) dX1_power_7
theorem jf_power_met {l : Launch} {D : va_G} {E : jf_E} {A : Nat → Prop} {fo : Nat → Nat → Option Nat} {pl : va_W} {F : Nat} (hfl : l.flags = flags0) {x1 : Int32} {x2 : Int32} {S : jf_S} {out : (Int32 ⊕ Nat) × jf_S} (h : jf_power F x1 x2 S = some out) : jf_MXi l D E A fo pl yX1_power cX1_power 3 (some .int) 7 [.ref (E.1 0), .int x1, .int x2] S out :=
  jf_MXi_of hfl (own := RX1) ⟨by decide, rfl, Nat.le_of_ble_eq_true rfl⟩ (fun hX => jf_power_ok hX F x1 x2 S h)
theorem jf_harm_d : yX1_harm.cls = RX1 ∧ yX1_harm.cls ≠ "java/lang/invoke/MethodHandle" ∧ yX1_harm.cls ≠ "java/lang/invoke/VarHandle" ∧ (parseMethodDescriptor yX1_harm.desc).map (fun d => d.parameters.length) = some 1 := by decide +kernel
theorem jf_harm_b28_ok {out : (Int32 ⊕ Nat) × jf_S} (hX : jf_OkX RX1 l p R s m args meth c A D E cX1_harm 2 (some .int) 7 out) (F : Nat) (x1 : Int32) (k0 : Int32) (S : jf_S) (h : jf_harm_b28 F x1 k0 S = some out) : jf_J p l e R s m args below meth c A D E fo pl 2 (jf_QXi below args s A D E fo pl out) 28 [(0, .ref (E.1 0)), (1, .int x1)] [.int k0] S := by
  intro H locs ls hP hS hl
  have hX0 := hX
  obtain ⟨⟨hx, hb, hml, hown, hts, hlk, hr, hlv, hV, het⟩, hfl, hcx⟩ := hX0
  unfold jf_harm_b28 at h
  refine (jx_xb_some h).elim (fun gv1 => ?_) (fun gv1 => ?_)
  · obtain ⟨v1, S2, ev1, h⟩ := gv1
    refine jf_callVS (out := S2) hx hb hml hown hts hlv hV (jf_mayBe_met hfl ev1) jf_mayBe_g_X1 jf_mayBe_d (As := [.int k0]) (Nat.le_of_ble_eq_true rfl) (Nat.le_of_ble_eq_true rfl) hP hS hl.1 rfl rfl (lv_room (Nat.le_of_ble_eq_true rfl)) dX1_harm_28 (fun H locs hP hS => ?_)
    refine lv_aload_n hx hb dX1_harm_31 rfl (lv_at hl 0 rfl) ?_
    refine jf_get hx hb hts in_X1 hown hV hP (ci := 1) (k := 1) jf_o0 rfl (by decide) (hts _ q455) rfl rfl dX1_harm_32 ?_
    refine jf_getN hx hb hts in_X4 hown hV hP (ci := 3) (k := 4) (jf_oP (Or.inl rfl)) rfl (by decide) (jf_l_X1_237 hV.2.2.1) rfl rfl dX1_harm_35 ?_
    refine lv_aload_n hx hb dX1_harm_38 rfl (lv_at hl 0 rfl) ?_
    refine jf_get hx hb hts in_X1 hown hV hP (ci := 1) (k := 1) jf_o0 rfl (by decide) (hts _ q455) rfl rfl dX1_harm_39 ?_
    refine jf_getN hx hb hts in_X4 hown hV hP (ci := 3) (k := 15) (jf_oP (Or.inl rfl)) rfl (by decide) (jf_l_X1_101 hV.2.2.1) rfl rfl dX1_harm_42 ?_
    refine lv_iload_n hx hb dX1_harm_45 rfl (lv_at hl 1 rfl) ?_
    obtain ⟨j3, ej3, bj3, h⟩ := jx_ga_some h
    obtain ⟨S4, eS4, h⟩ := jx_nx_some h
    refine jf_iast hx hb hV hP hS (jf_aP4 (Or.inl rfl)) ej3 bj3 eS4 dX1_harm_46 (fun H locs hP hS => ?_)
    refine lv_aload_n hx hb dX1_harm_47 rfl (lv_at hl 0 rfl) ?_
    refine jf_get hx hb hts in_X1 hown hV hP (ci := 1) (k := 1) jf_o0 rfl (by decide) (hts _ q455) rfl rfl dX1_harm_48 ?_
    refine lv_dup hx hb dX1_harm_51 rfl ?_
    refine jf_getN hx hb hts in_X4 hown hV hP (ci := 3) (k := 15) (jf_oP (Or.inl rfl)) rfl (by decide) (jf_l_X1_101 hV.2.2.1) rfl rfl dX1_harm_52 ?_
    refine lv_iconst hx hb dX1_harm_55 jx_ki1 ?_
    refine lv_iadd hx hb dX1_harm_56 ?_
    obtain ⟨S5, eS5, h⟩ := jx_nx_some h
    refine jf_putN (S1 := S5) hx hb hts in_X4 tyX4_ok nmX4 hown hV hP hS (ci := 3) (k := 15) (by rw [eS5]; rfl) (jf_oP (Or.inl rfl)) (by rw [eS5]; exact (jf_sP15 (Or.inl rfl)) _) rfl (by decide) (jf_l_X1_101 hV.2.2.1) rfl rfl (tyX4_ok 15 (by decide)) ⟨rfl, rfl⟩ (Nat.le_of_ble_eq_true rfl) dX1_harm_57 (fun H locs hP hS => ?_)
    refine lv_aload_n hx hb dX1_harm_60 rfl (lv_at hl 0 rfl) ?_
    refine jf_get hx hb hts in_X1 hown hV hP (ci := 1) (k := 1) jf_o0 rfl (by decide) (hts _ q455) rfl rfl dX1_harm_61 ?_
    refine jf_getN hx hb hts in_X4 hown hV hP (ci := 3) (k := 15) (jf_oP (Or.inl rfl)) rfl (by decide) (jf_l_X1_101 hV.2.2.1) rfl rfl dX1_harm_64 ?_
    refine lv_iconst hx hb dX1_harm_67 jx_ki1 ?_
    refine lv_isub hx hb dX1_harm_68 ?_
    exact jf_xiret hx hb hr hlk hV hP hS h dX1_harm_69
  · obtain ⟨v1, S2, ev1, ho⟩ := gv1
    subst ho
    exact jf_outS (S1 := S2) (k := v1) hx hb hml hown hts hlv hV het hlk (jf_mayBe_met hfl ev1) jf_mayBe_g_X1 jf_mayBe_d (As := [.int k0]) (Nat.le_of_ble_eq_true rfl) (Nat.le_of_ble_eq_true rfl) (hcx _ rfl) hP hS hl.1 rfl rfl (lv_room (Nat.le_of_ble_eq_true rfl)) dX1_harm_28
theorem jf_harm_ok {out : (Int32 ⊕ Nat) × jf_S} (hX : jf_OkX RX1 l p R s m args meth c A D E cX1_harm 2 (some .int) 7 out) (F : Nat) (x1 : Int32) (S : jf_S) (h : jf_harm F x1 S = some out) : jf_J p l e R s m args below meth c A D E fo pl 2 (jf_QXi below args s A D E fo pl out) 0 [(0, .ref (E.1 0)), (1, .int x1)] [] S := by
  intro H locs ls hP hS hl
  have hX0 := hX
  obtain ⟨⟨hx, hb, hml, hown, hts, hlk, hr, hlv, hV, het⟩, hfl, hcx⟩ := hX0
  unfold jf_harm at h
  refine lv_iload_n hx hb dX1_harm_0 rfl (lv_at hl 1 rfl) ?_
  refine lv_iconst hx hb dX1_harm_1 jx_ki0 ?_
  refine lv_sipush hx hb dX1_harm_2 jx_ks999 ?_
  obtain ⟨q1, eq1, h⟩ := jx_bi_some h
  refine jx_callSi hx hb hml hown hts (jf_isIn_met eq1) jf_isIn_g_X1 jf_isIn_d (As := [.int x1, .int (nI 0), .int (nI 999)]) (⟨Nat.le_trans (Nat.le_of_ble_eq_true rfl) hlv.1, Nat.le_trans (Nat.le_of_ble_eq_true rfl) hlv.2⟩) hl.1 rfl rfl (lv_room (Nat.le_of_ble_eq_true rfl)) dX1_harm_5 ⟨Nat.zero_le _, Nat.zero_le _⟩ ?_
  refine (jx_xb_some h).elim (fun gv2 => ?_) (fun gv2 => ?_)
  · obtain ⟨v2, S3, ev2, h⟩ := gv2
    refine jf_callVS (out := S3) hx hb hml hown hts hlv hV (jf_must_met hfl ev2) jf_must_g_X1 jf_must_d (As := [.int q1]) (Nat.le_of_ble_eq_true rfl) (Nat.le_of_ble_eq_true rfl) hP hS hl.1 rfl rfl (lv_room (Nat.le_of_ble_eq_true rfl)) dX1_harm_8 (fun H locs hP hS => ?_)
    refine lv_aload_n hx hb dX1_harm_11 rfl (lv_at hl 0 rfl) ?_
    refine jf_get hx hb hts in_X1 hown hV hP (ci := 1) (k := 1) jf_o0 rfl (by decide) (hts _ q455) rfl rfl dX1_harm_12 ?_
    refine jf_getN hx hb hts in_X4 hown hV hP (ci := 3) (k := 15) (jf_oP (Or.inl rfl)) rfl (by decide) (jf_l_X1_101 hV.2.2.1) rfl rfl dX1_harm_15 ?_
    refine lv_bipush hx hb dX1_harm_18 jx_kb8 ?_
    refine lv_icmp_ge (tgt := 27) hx hb dX1_harm_20 rfl (fun c4 => ?_) (fun c4 => ?_)
    · rw [if_pos c4] at h
      refine lv_iconst hx hb dX1_harm_27 jx_ki0 ?_
      exact jf_harm_b28_ok hX F _ _ _ h _ _ _ hP hS hl
    · rw [if_neg c4] at h
      refine lv_iconst hx hb dX1_harm_23 jx_ki1 ?_
      refine lv_goto (tgt := 28) hx hb dX1_harm_24 rfl ?_
      exact jf_harm_b28_ok hX F _ _ _ h _ _ _ hP hS hl
  · obtain ⟨v2, S3, ev2, ho⟩ := gv2
    subst ho
    exact jf_outS (S1 := S3) (k := v2) hx hb hml hown hts hlv hV het hlk (jf_must_met hfl ev2) jf_must_g_X1 jf_must_d (As := [.int q1]) (Nat.le_of_ble_eq_true rfl) (Nat.le_of_ble_eq_true rfl) (hcx _ rfl) hP hS hl.1 rfl rfl (lv_room (Nat.le_of_ble_eq_true rfl)) dX1_harm_8
theorem jf_harm_met {l : Launch} {D : va_G} {E : jf_E} {A : Nat → Prop} {fo : Nat → Nat → Option Nat} {pl : va_W} {F : Nat} (hfl : l.flags = flags0) {x1 : Int32} {S : jf_S} {out : (Int32 ⊕ Nat) × jf_S} (h : jf_harm F x1 S = some out) : jf_MXi l D E A fo pl yX1_harm cX1_harm 2 (some .int) 7 [.ref (E.1 0), .int x1] S out :=
  jf_MXi_of hfl (own := RX1) ⟨by decide, rfl, Nat.le_of_ble_eq_true rfl⟩ (fun hX => jf_harm_ok hX F x1 S h)
theorem jf_reach_d : yX1_reach.cls = RX1 ∧ yX1_reach.cls ≠ "java/lang/invoke/MethodHandle" ∧ yX1_reach.cls ≠ "java/lang/invoke/VarHandle" ∧ (parseMethodDescriptor yX1_reach.desc).map (fun d => d.parameters.length) = some 2 := by decide +kernel
theorem jf_reach_ok {out : (Int32 ⊕ Nat) × jf_S} (hX : jf_OkX RX1 l p R s m args meth c A D E cX1_reach 3 (some .int) 9 out) (F : Nat) (x1 : Int32) (x2 : Int32) (S : jf_S) (h : jf_reach F x1 x2 S = some out) : jf_J p l e R s m args below meth c A D E fo pl 3 (jf_QXi below args s A D E fo pl out) 0 [(0, .ref (E.1 0)), (1, .int x1), (2, .int x2)] [] S := by
  intro H locs ls hP hS hl
  have hX0 := hX
  obtain ⟨⟨hx, hb, hml, hown, hts, hlk, hr, hlv, hV, het⟩, hfl, hcx⟩ := hX0
  unfold jf_reach at h
  refine lv_aload_n hx hb dX1_reach_0 rfl (lv_at hl 0 rfl) ?_
  refine lv_iload_n hx hb dX1_reach_1 rfl (lv_at hl 1 rfl) ?_
  refine (jx_xb_some h).elim (fun gv1 => ?_) (fun gv1 => ?_)
  · obtain ⟨v1, S2, ev1, h⟩ := gv1
    refine jf_callV (ci := 1) (out := S2) hx hb hml hown hts hlv hV (jf_isPower_met hfl ev1) jf_isPower_g_X1 jf_isPower_d (As := [.int x1]) (Nat.le_of_ble_eq_true rfl) (Nat.le_of_ble_eq_true rfl) hP hS jf_o0 rfl hl.1 rfl rfl (lv_room (Nat.le_of_ble_eq_true rfl)) dX1_reach_2 (fun H locs hP hS => ?_)
    refine lv_aload_n hx hb dX1_reach_5 rfl (lv_at hl 0 rfl) ?_
    refine lv_iload_n hx hb dX1_reach_6 rfl (lv_at hl 2 rfl) ?_
    refine (jx_xb_some h).elim (fun gv3 => ?_) (fun gv3 => ?_)
    · obtain ⟨v3, S4, ev3, h⟩ := gv3
      refine jf_callV (ci := 1) (out := S4) hx hb hml hown hts hlv hV (jf_isHarm_met hfl ev3) jf_isHarm_g_X1 jf_isHarm_d (As := [.int x2]) (Nat.le_of_ble_eq_true rfl) (Nat.le_of_ble_eq_true rfl) hP hS jf_o0 rfl hl.1 rfl rfl (lv_room (Nat.le_of_ble_eq_true rfl)) dX1_reach_7 (fun H locs hP hS => ?_)
      refine lv_aload_n hx hb dX1_reach_10 rfl (lv_at hl 0 rfl) ?_
      refine lv_iload_n hx hb dX1_reach_11 rfl (lv_at hl 1 rfl) ?_
      refine lv_iload_n hx hb dX1_reach_12 rfl (lv_at hl 2 rfl) ?_
      obtain ⟨q5, eq5, h⟩ := jx_bi_some h
      refine jf_callI hx hb hml hown hts hlv hV (jf_reaches_met eq5) jf_reaches_g_X1 jf_reaches_d (As := [.int x1, .int x2]) (Nat.le_of_ble_eq_true rfl) (Nat.le_of_ble_eq_true rfl) hP hS (ci := 1) jf_o0 rfl hl.1 rfl rfl (lv_room (Nat.le_of_ble_eq_true rfl)) dX1_reach_13 (fun H locs hP hS => ?_)
      exact jf_xiret hx hb hr hlk hV hP hS h dX1_reach_16
    · obtain ⟨v3, S4, ev3, ho⟩ := gv3
      subst ho
      exact jf_outV (ci := 1) (S1 := S4) (k := v3) hx hb hml hown hts hlv hV het hlk (jf_isHarm_met hfl ev3) jf_isHarm_g_X1 jf_isHarm_d (As := [.int x2]) (Nat.le_of_ble_eq_true rfl) (Nat.le_of_ble_eq_true rfl) (hcx _ rfl) hP hS jf_o0 rfl hl.1 rfl rfl (lv_room (Nat.le_of_ble_eq_true rfl)) dX1_reach_7
  · obtain ⟨v1, S2, ev1, ho⟩ := gv1
    subst ho
    exact jf_outV (ci := 1) (S1 := S2) (k := v1) hx hb hml hown hts hlv hV het hlk (jf_isPower_met hfl ev1) jf_isPower_g_X1 jf_isPower_d (As := [.int x1]) (Nat.le_of_ble_eq_true rfl) (Nat.le_of_ble_eq_true rfl) (hcx _ rfl) hP hS jf_o0 rfl hl.1 rfl rfl (lv_room (Nat.le_of_ble_eq_true rfl)) dX1_reach_2
theorem jf_reach_met {l : Launch} {D : va_G} {E : jf_E} {A : Nat → Prop} {fo : Nat → Nat → Option Nat} {pl : va_W} {F : Nat} (hfl : l.flags = flags0) {x1 : Int32} {x2 : Int32} {S : jf_S} {out : (Int32 ⊕ Nat) × jf_S} (h : jf_reach F x1 x2 S = some out) : jf_MXi l D E A fo pl yX1_reach cX1_reach 3 (some .int) 9 [.ref (E.1 0), .int x1, .int x2] S out :=
  jf_MXi_of hfl (own := RX1) ⟨by decide, rfl, Nat.le_of_ble_eq_true rfl⟩ (fun hX => jf_reach_ok hX F x1 x2 S h)
theorem jf_row_d : yX1_row.cls = RX1 ∧ yX1_row.cls ≠ "java/lang/invoke/MethodHandle" ∧ yX1_row.cls ≠ "java/lang/invoke/VarHandle" ∧ (parseMethodDescriptor yX1_row.desc).map (fun d => d.parameters.length) = some 3 := by decide +kernel
theorem jf_row_ok {out : (Int32 ⊕ Nat) × jf_S} (hX : jf_OkX RX1 l p R s m args meth c A D E cX1_row 4 (some .int) 8 out) (F : Nat) (x1 : Int32) (x2 : Int32) (x3 : Int32) (S : jf_S) (h : jf_row F x1 x2 x3 S = some out) : jf_J p l e R s m args below meth c A D E fo pl 4 (jf_QXi below args s A D E fo pl out) 0 [(0, .ref (E.1 0)), (1, .int x1), (2, .int x2), (3, .int x3)] [] S := by
  intro H locs ls hP hS hl
  have hX0 := hX
  obtain ⟨⟨hx, hb, hml, hown, hts, hlk, hr, hlv, hV, het⟩, hfl, hcx⟩ := hX0
  unfold jf_row at h
  refine lv_aload_n hx hb dX1_row_0 rfl (lv_at hl 0 rfl) ?_
  refine lv_iload_n hx hb dX1_row_1 rfl (lv_at hl 1 rfl) ?_
  refine (jx_xb_some h).elim (fun gv1 => ?_) (fun gv1 => ?_)
  · obtain ⟨v1, S2, ev1, h⟩ := gv1
    refine jf_callV (ci := 1) (out := S2) hx hb hml hown hts hlv hV (jf_isPower_met hfl ev1) jf_isPower_g_X1 jf_isPower_d (As := [.int x1]) (Nat.le_of_ble_eq_true rfl) (Nat.le_of_ble_eq_true rfl) hP hS jf_o0 rfl hl.1 rfl rfl (lv_room (Nat.le_of_ble_eq_true rfl)) dX1_row_2 (fun H locs hP hS => ?_)
    refine lv_aload_n hx hb dX1_row_5 rfl (lv_at hl 0 rfl) ?_
    refine lv_iload_n hx hb dX1_row_6 rfl (lv_at hl 2 rfl) ?_
    refine (jx_xb_some h).elim (fun gv3 => ?_) (fun gv3 => ?_)
    · obtain ⟨v3, S4, ev3, h⟩ := gv3
      refine jf_callV (ci := 1) (out := S4) hx hb hml hown hts hlv hV (jf_isHarm_met hfl ev3) jf_isHarm_g_X1 jf_isHarm_d (As := [.int x2]) (Nat.le_of_ble_eq_true rfl) (Nat.le_of_ble_eq_true rfl) hP hS jf_o0 rfl hl.1 rfl rfl (lv_room (Nat.le_of_ble_eq_true rfl)) dX1_row_7 (fun H locs hP hS => ?_)
      refine lv_aload_n hx hb dX1_row_10 rfl (lv_at hl 0 rfl) ?_
      refine lv_iload_n hx hb dX1_row_11 rfl (lv_at hl 1 rfl) ?_
      refine lv_iload_n hx hb dX1_row_12 rfl (lv_at hl 2 rfl) ?_
      obtain ⟨q5, eq5, h⟩ := jx_bi_some h
      refine jf_callI hx hb hml hown hts hlv hV (jf_finds_met eq5) jf_finds_g_X1 jf_finds_d (As := [.int x1, .int x2]) (Nat.le_of_ble_eq_true rfl) (Nat.le_of_ble_eq_true rfl) hP hS (ci := 1) jf_o0 rfl hl.1 rfl rfl (lv_room (Nat.le_of_ble_eq_true rfl)) dX1_row_13 (fun H locs hP hS => ?_)
      refine lv_pop hx hb dX1_row_16 rfl ?_
      refine lv_iload_n hx hb dX1_row_17 rfl (lv_at hl 3 rfl) ?_
      refine lv_iconst hx hb dX1_row_18 jx_ki0 ?_
      refine lv_aload_n hx hb dX1_row_19 rfl (lv_at hl 0 rfl) ?_
      refine jf_get hx hb hts in_X1 hown hV hP (ci := 1) (k := 10) jf_o0 rfl (by decide) (hts _ q464) rfl rfl dX1_row_20 ?_
      refine lv_iconst hx hb dX1_row_23 jx_ki1 ?_
      refine lv_isub hx hb dX1_row_24 ?_
      obtain ⟨q6, eq6, h⟩ := jx_bi_some h
      refine jx_callSi hx hb hml hown hts (jf_isIn_met eq6) jf_isIn_g_X1 jf_isIn_d (As := [.int x3, .int (nI 0), .int ((q5.2.1 0 10) - (nI 1))]) (⟨Nat.le_trans (Nat.le_of_ble_eq_true rfl) hlv.1, Nat.le_trans (Nat.le_of_ble_eq_true rfl) hlv.2⟩) hl.1 rfl rfl (lv_room (Nat.le_of_ble_eq_true rfl)) dX1_row_25 ⟨Nat.zero_le _, Nat.zero_le _⟩ ?_
      refine lv_if_eq (tgt := 40) hx hb dX1_row_28 rfl (fun c7 => ?_) (fun c7 => ?_)
      · rw [if_pos c7] at h
        refine lv_iconst hx hb dX1_row_40 jx_kim1 ?_
        exact jf_xiret hx hb hr hlk hV hP hS h dX1_row_41
      · rw [if_neg c7] at h
        refine lv_aload_n hx hb dX1_row_31 rfl (lv_at hl 0 rfl) ?_
        refine jf_get hx hb hts in_X1 hown hV hP (ci := 1) (k := 5) jf_o0 rfl (by decide) (hts _ q459) rfl rfl dX1_row_32 ?_
        refine lv_iload_n hx hb dX1_row_35 rfl (lv_at hl 3 rfl) ?_
        obtain ⟨j8, ej8, bj8, h⟩ := jx_ga_some h
        refine jf_iald hx hb hV hP jf_a0_5 ej8 bj8 dX1_row_36 ?_
        refine lv_goto (tgt := 41) hx hb dX1_row_37 rfl ?_
        exact jf_xiret hx hb hr hlk hV hP hS h dX1_row_41
    · obtain ⟨v3, S4, ev3, ho⟩ := gv3
      subst ho
      exact jf_outV (ci := 1) (S1 := S4) (k := v3) hx hb hml hown hts hlv hV het hlk (jf_isHarm_met hfl ev3) jf_isHarm_g_X1 jf_isHarm_d (As := [.int x2]) (Nat.le_of_ble_eq_true rfl) (Nat.le_of_ble_eq_true rfl) (hcx _ rfl) hP hS jf_o0 rfl hl.1 rfl rfl (lv_room (Nat.le_of_ble_eq_true rfl)) dX1_row_7
  · obtain ⟨v1, S2, ev1, ho⟩ := gv1
    subst ho
    exact jf_outV (ci := 1) (S1 := S2) (k := v1) hx hb hml hown hts hlv hV het hlk (jf_isPower_met hfl ev1) jf_isPower_g_X1 jf_isPower_d (As := [.int x1]) (Nat.le_of_ble_eq_true rfl) (Nat.le_of_ble_eq_true rfl) (hcx _ rfl) hP hS jf_o0 rfl hl.1 rfl rfl (lv_room (Nat.le_of_ble_eq_true rfl)) dX1_row_2
theorem jf_row_met {l : Launch} {D : va_G} {E : jf_E} {A : Nat → Prop} {fo : Nat → Nat → Option Nat} {pl : va_W} {F : Nat} (hfl : l.flags = flags0) {x1 : Int32} {x2 : Int32} {x3 : Int32} {S : jf_S} {out : (Int32 ⊕ Nat) × jf_S} (h : jf_row F x1 x2 x3 S = some out) : jf_MXi l D E A fo pl yX1_row cX1_row 4 (some .int) 8 [.ref (E.1 0), .int x1, .int x2, .int x3] S out :=
  jf_MXi_of hfl (own := RX1) ⟨by decide, rfl, Nat.le_of_ble_eq_true rfl⟩ (fun hX => jf_row_ok hX F x1 x2 x3 S h)
theorem jf_closed_d : yX1_closed.cls = RX1 ∧ yX1_closed.cls ≠ "java/lang/invoke/MethodHandle" ∧ yX1_closed.cls ≠ "java/lang/invoke/VarHandle" ∧ (parseMethodDescriptor yX1_closed.desc).map (fun d => d.parameters.length) = some 1 := by decide +kernel
theorem jf_closed_ok {out : (Int64 ⊕ Nat) × jf_S} (hX : jf_OkX RX1 l p R s m args meth c A D E cX1_closed 2 (some .long) 8 out) (F : Nat) (x1 : Int32) (S : jf_S) (h : jf_closed F x1 S = some out) : jf_J p l e R s m args below meth c A D E fo pl 2 (jf_QXl below args s A D E fo pl out) 0 [(0, .ref (E.1 0)), (1, .int x1)] [] S := by
  intro H locs ls hP hS hl
  have hX0 := hX
  obtain ⟨⟨hx, hb, hml, hown, hts, hlk, hr, hlv, hV, het⟩, hfl, hcx⟩ := hX0
  unfold jf_closed at h
  refine lv_aload_n hx hb dX1_closed_0 rfl (lv_at hl 0 rfl) ?_
  refine lv_iload_n hx hb dX1_closed_1 rfl (lv_at hl 1 rfl) ?_
  refine (jx_xb_some h).elim (fun gv1 => ?_) (fun gv1 => ?_)
  · obtain ⟨v1, S2, ev1, h⟩ := gv1
    refine jf_callV (ci := 1) (out := S2) hx hb hml hown hts hlv hV (jf_isPower_met hfl ev1) jf_isPower_g_X1 jf_isPower_d (As := [.int x1]) (Nat.le_of_ble_eq_true rfl) (Nat.le_of_ble_eq_true rfl) hP hS jf_o0 rfl hl.1 rfl rfl (lv_room (Nat.le_of_ble_eq_true rfl)) dX1_closed_2 (fun H locs hP hS => ?_)
    refine lv_aload_n hx hb dX1_closed_5 rfl (lv_at hl 0 rfl) ?_
    refine jf_get hx hb hts in_X1 hown hV hP (ci := 1) (k := 1) jf_o0 rfl (by decide) (hts _ q455) rfl rfl dX1_closed_6 ?_
    refine lv_aload_n hx hb dX1_closed_9 rfl (lv_at hl 0 rfl) ?_
    refine jf_get hx hb hts in_X1 hown hV hP (ci := 1) (k := 1) jf_o0 rfl (by decide) (hts _ q455) rfl rfl dX1_closed_10 ?_
    refine jf_getN hx hb hts in_X4 hown hV hP (ci := 3) (k := 1) (jf_oP (Or.inl rfl)) rfl (by decide) (jf_l_X1_128 hV.2.2.1) rfl rfl dX1_closed_13 ?_
    refine lv_iload_n hx hb dX1_closed_16 rfl (lv_at hl 1 rfl) ?_
    obtain ⟨q3, eq3, h⟩ := jx_bi_some h
    refine jf_callL hx hb hml hown hts hlv hV (jp_closed_met (Or.inl rfl) (Or.inl ⟨rfl, rfl⟩) eq3) jp_closed_g_X1 jp_closed_d (As := [.ref (E.2.1 3 1), .int x1]) (Nat.le_of_ble_eq_true rfl) (Nat.le_of_ble_eq_true rfl) hP hS (ci := 3) (jf_oP (Or.inl rfl)) rfl hl.1 rfl rfl (lv_room (Nat.le_of_ble_eq_true rfl)) dX1_closed_17 (fun H locs hP hS => ?_)
    exact jf_xlret hx hb hr hlk hV hP hS h dX1_closed_20
  · obtain ⟨v1, S2, ev1, ho⟩ := gv1
    subst ho
    exact jf_outV (ci := 1) (S1 := S2) (k := v1) hx hb hml hown hts hlv hV het hlk (jf_isPower_met hfl ev1) jf_isPower_g_X1 jf_isPower_d (As := [.int x1]) (Nat.le_of_ble_eq_true rfl) (Nat.le_of_ble_eq_true rfl) (hcx _ rfl) hP hS jf_o0 rfl hl.1 rfl rfl (lv_room (Nat.le_of_ble_eq_true rfl)) dX1_closed_2
theorem jf_closed_met {l : Launch} {D : va_G} {E : jf_E} {A : Nat → Prop} {fo : Nat → Nat → Option Nat} {pl : va_W} {F : Nat} (hfl : l.flags = flags0) {x1 : Int32} {S : jf_S} {out : (Int64 ⊕ Nat) × jf_S} (h : jf_closed F x1 S = some out) : jf_MXl l D E A fo pl yX1_closed cX1_closed 2 (some .long) 8 [.ref (E.1 0), .int x1] S out :=
  jf_MXl_of hfl (own := RX1) ⟨by decide, rfl, Nat.le_of_ble_eq_true rfl⟩ (fun hX => jf_closed_ok hX F x1 S h)
theorem jf_least_d : yX1_least.cls = RX1 ∧ yX1_least.cls ≠ "java/lang/invoke/MethodHandle" ∧ yX1_least.cls ≠ "java/lang/invoke/VarHandle" ∧ (parseMethodDescriptor yX1_least.desc).map (fun d => d.parameters.length) = some 3 := by decide +kernel
theorem jf_least_b101_ok {out : (Int32 ⊕ Nat) × jf_S} (hX : jf_OkX RX1 l p R s m args meth c A D E cX1_least 5 (some .int) 16 out) (F : Nat) {r40 : Int32 × Int32 × Int32 × Int32 × jf_S → Option ((Int32 ⊕ Nat) × jf_S)} (hr40 : ∀ a, r40 a = some out → jf_J p l e R s m args below meth c A D E fo pl 5 (jf_QXi below args s A D E fo pl out) 40 [(0, .ref (E.1 0)), (1, .int a.1), (2, .int a.2.1), (3, .int a.2.2.1), (4, .int a.2.2.2.1)] [] a.2.2.2.2) (x1 : Int32) (x2 : Int32) (x3 : Int32) (x4 : Int32) (S : jf_S) (h : jf_least_b101 F r40 x1 x2 x3 x4 S = some out) : jf_J p l e R s m args below meth c A D E fo pl 5 (jf_QXi below args s A D E fo pl out) 101 [(0, .ref (E.1 0)), (1, .int x1), (2, .int x2), (3, .int x3), (4, .int x4)] [] S := by
  intro H locs ls hP hS hl
  have hX0 := hX
  obtain ⟨⟨hx, hb, hml, hown, hts, hlk, hr, hlv, hV, het⟩, hfl, hcx⟩ := hX0
  unfold jf_least_b101 at h
  obtain ⟨y1, ey1, h⟩ := jx_nx_some h
  refine lv_iinc (v := y1) (lv' := [(4, .int y1), (0, .ref (E.1 0)), (1, .int x1), (2, .int x2), (3, .int x3)]) hx hb dX1_least_101 hl (k := 4) rfl (jx_inc jx_ki1 ey1) (Nat.le_of_ble_eq_true rfl) rfl (fun ls hl => ?_)
  refine lv_goto (tgt := 40) hx hb dX1_least_104 rfl ?_
  exact hr40 _ h _ _ _ hP hS (lv_sub hl [1, 2, 3, 4, 0] rfl)
theorem jf_least_L167_ok {out : (Int32 ⊕ Nat) × jf_S} (hX : jf_OkX RX1 l p R s m args meth c A D E cX1_least 5 (some .int) 16 out) (F : Nat) {r167 : Int32 × Int32 × jf_S → Option ((Int32 ⊕ Nat) × jf_S)} (hr167 : ∀ a, r167 a = some out → jf_J p l e R s m args below meth c A D E fo pl 5 (jf_QXi below args s A D E fo pl out) 167 [(0, .ref (E.1 0)), (3, .int a.1), (4, .int a.2.1)] [] a.2.2) (x3 : Int32) (x4 : Int32) (S : jf_S) (h : jf_least_L167 F r167 x3 x4 S = some out) : jf_J p l e R s m args below meth c A D E fo pl 5 (jf_QXi below args s A D E fo pl out) 167 [(0, .ref (E.1 0)), (3, .int x3), (4, .int x4)] [] S := by
  intro H locs ls hP hS hl
  have hX0 := hX
  obtain ⟨⟨hx, hb, hml, hown, hts, hlk, hr, hlv, hV, het⟩, hfl, hcx⟩ := hX0
  unfold jf_least_L167 at h
  refine lv_iload hx hb dX1_least_167 (lv_at hl 2 rfl) ?_
  refine lv_aload_n hx hb dX1_least_169 rfl (lv_at hl 0 rfl) ?_
  refine jf_get hx hb hts in_X1 hown hV hP (ci := 1) (k := 11) jf_o0 rfl (by decide) (hts _ q465) rfl rfl dX1_least_170 ?_
  refine lv_icmp_ge (tgt := 200) hx hb dX1_least_173 rfl (fun c1 => ?_) (fun c1 => ?_)
  · rw [if_pos c1] at h
    refine lv_iconst hx hb dX1_least_200 jx_kim1 ?_
    exact jf_xiret hx hb hr hlk hV hP hS h dX1_least_201
  · rw [if_neg c1] at h
    refine lv_aload_n hx hb dX1_least_176 rfl (lv_at hl 0 rfl) ?_
    refine jf_get hx hb hts in_X1 hown hV hP (ci := 1) (k := 8) jf_o0 rfl (by decide) (hts _ q462) rfl rfl dX1_least_177 ?_
    refine lv_iload hx hb dX1_least_180 (lv_at hl 2 rfl) ?_
    obtain ⟨j2, ej2, bj2, h⟩ := jx_ga_some h
    refine jf_iald hx hb hV hP jf_a0_8 ej2 bj2 dX1_least_182 ?_
    refine lv_iload_n hx hb dX1_least_183 rfl (lv_at hl 1 rfl) ?_
    refine lv_icmp_ne (tgt := 194) hx hb dX1_least_184 rfl (fun c3 => ?_) (fun c3 => ?_)
    · rw [if_neg c3] at h
      obtain ⟨y4, ey4, h⟩ := jx_nx_some h
      refine lv_iinc (v := y4) (lv' := [(4, .int y4), (0, .ref (E.1 0)), (3, .int x3)]) hx hb dX1_least_194 hl (k := 2) rfl (jx_inc jx_ki1 ey4) (Nat.le_of_ble_eq_true rfl) rfl (fun ls hl => ?_)
      refine lv_goto (tgt := 167) hx hb dX1_least_197 rfl ?_
      exact hr167 _ h _ _ _ hP hS (lv_sub hl [1, 2, 0] rfl)
    · rw [if_pos c3] at h
      refine lv_aload_n hx hb dX1_least_187 rfl (lv_at hl 0 rfl) ?_
      refine jf_get hx hb hts in_X1 hown hV hP (ci := 1) (k := 7) jf_o0 rfl (by decide) (hts _ q461) rfl rfl dX1_least_188 ?_
      refine lv_iload_n hx hb dX1_least_191 rfl (lv_at hl 1 rfl) ?_
      obtain ⟨j5, ej5, bj5, h⟩ := jx_ga_some h
      refine jf_iald hx hb hV hP jf_a0_7 ej5 bj5 dX1_least_192 ?_
      exact jf_xiret hx hb hr hlk hV hP hS h dX1_least_193
theorem jf_least_h167_ok {out : (Int32 ⊕ Nat) × jf_S} (hX : jf_OkX RX1 l p R s m args meth c A D E cX1_least 5 (some .int) 16 out) (F : Nat) (n : Nat) (a : Int32 × Int32 × jf_S) (h : jf_least_h167 F n a = some out) : jf_J p l e R s m args below meth c A D E fo pl 5 (jf_QXi below args s A D E fo pl out) 167 [(0, .ref (E.1 0)), (3, .int a.1), (4, .int a.2.1)] [] a.2.2 :=
  jx_loop_ind (J := fun a => jf_J p l e R s m args below meth c A D E fo pl 5 (jf_QXi below args s A D E fo pl out) 167 [(0, .ref (E.1 0)), (3, .int a.1), (4, .int a.2.1)] [] a.2.2) (fun r hr a h => jf_least_L167_ok hX F hr a.1 a.2.1 a.2.2 h) n a h
theorem jf_least_b107_ok {out : (Int32 ⊕ Nat) × jf_S} (hX : jf_OkX RX1 l p R s m args meth c A D E cX1_least 5 (some .int) 16 out) (F : Nat) (x1 : Int32) (x2 : Int32) (x3 : Int32) (S : jf_S) (h : jf_least_b107 F x1 x2 x3 S = some out) : jf_J p l e R s m args below meth c A D E fo pl 5 (jf_QXi below args s A D E fo pl out) 107 [(0, .ref (E.1 0)), (1, .int x1), (2, .int x2), (3, .int x3)] [] S := by
  intro H locs ls hP hS hl
  have hX0 := hX
  obtain ⟨⟨hx, hb, hml, hown, hts, hlk, hr, hlv, hV, het⟩, hfl, hcx⟩ := hX0
  unfold jf_least_b107 at h
  refine lv_aload_n hx hb dX1_least_107 rfl (lv_at hl 0 rfl) ?_
  refine jf_get hx hb hts in_X1 hown hV hP (ci := 1) (k := 1) jf_o0 rfl (by decide) (hts _ q455) rfl rfl dX1_least_108 ?_
  refine jf_getN hx hb hts in_X4 hown hV hP (ci := 3) (k := 1) (jf_oP (Or.inl rfl)) rfl (by decide) (jf_l_X1_128 hV.2.2.1) rfl rfl dX1_least_111 ?_
  refine lv_iconst hx hb dX1_least_114 jx_ki0 ?_
  refine lv_aload_n hx hb dX1_least_115 rfl (lv_at hl 0 rfl) ?_
  refine jf_get hx hb hts in_X1 hown hV hP (ci := 1) (k := 6) jf_o0 rfl (by decide) (hts _ q460) rfl rfl dX1_least_116 ?_
  refine lv_iconst hx hb dX1_least_119 jx_ki0 ?_
  refine lv_bipush hx hb dX1_least_120 jx_kb40 ?_
  obtain ⟨S1, eS1, h⟩ := jx_nx_some h
  refine jf_copyi (n := 40) (nn := nI 40) hx hb (hml.trans hl.1.symm) hown (hts _ q1483) hts hV hP hS (jf_aP1 (Or.inl rfl)) jf_a0_6 eS1 rfl (by decide) (by decide) (Nat.le_trans (Nat.le_of_ble_eq_true rfl) hlv.1) (Nat.le_trans (Nat.le_of_ble_eq_true rfl) hlv.2) dX1_least_122 (fun H locs hP hS => ?_)
  refine lv_aload_n hx hb dX1_least_125 rfl (lv_at hl 0 rfl) ?_
  refine lv_iconst hx hb dX1_least_126 jx_ki0 ?_
  obtain ⟨S2, eS2, h⟩ := jx_nx_some h
  refine jf_put (S1 := S2) hx hb hts in_X1 tyX1_ok nmX1 hown hV hP hS (ci := 1) (k := 14) (by rw [eS2]; rfl) jf_o0 (by rw [eS2]; exact jf_s0_14 _) rfl (by decide) (hts _ q468) rfl rfl (tyX1_ok 14 (by decide)) jx_nz0 (Nat.le_of_ble_eq_true rfl) dX1_least_127 (fun H locs hP hS => ?_)
  refine lv_aload_n hx hb dX1_least_130 rfl (lv_at hl 0 rfl) ?_
  refine lv_iconst hx hb dX1_least_131 jx_ki0 ?_
  refine lv_iload_n hx hb dX1_least_132 rfl (lv_at hl 1 rfl) ?_
  refine lv_aload_n hx hb dX1_least_133 rfl (lv_at hl 0 rfl) ?_
  refine jf_get hx hb hts in_X1 hown hV hP (ci := 1) (k := 1) jf_o0 rfl (by decide) (hts _ q455) rfl rfl dX1_least_134 ?_
  refine lv_iload_n hx hb dX1_least_137 rfl (lv_at hl 2 rfl) ?_
  obtain ⟨q3, eq3, h⟩ := jx_bi_some h
  refine jf_callL hx hb hml hown hts hlv hV (jp_doors_met (Or.inl rfl) eq3) jp_doors_g_X1 jp_doors_d (As := [.int x2]) (Nat.le_of_ble_eq_true rfl) (Nat.le_of_ble_eq_true rfl) hP hS (ci := 3) (jf_oP (Or.inl rfl)) rfl hl.1 rfl rfl (lv_room (Nat.le_of_ble_eq_true rfl)) dX1_least_138 (fun H locs hP hS => ?_)
  refine lv_iconst hx hb dX1_least_141 jx_ki0 ?_
  obtain ⟨q4, eq4, h⟩ := jx_bi_some h
  refine jf_callV hx hb hml hown hts hlv hV (jf_chooses_met eq4) jf_chooses_g_X1 jf_chooses_d (As := [.int (nI 0), .int x1, .long q3.1, .int (nI 0)]) (Nat.le_of_ble_eq_true rfl) (Nat.le_of_ble_eq_true rfl) hP hS (ci := 1) jf_o0 rfl hl.1 rfl rfl (lv_room (Nat.le_of_ble_eq_true rfl)) dX1_least_142 (fun H locs hP hS => ?_)
  refine lv_aload_n hx hb dX1_least_145 rfl (lv_at hl 0 rfl) ?_
  refine jf_get hx hb hts in_X1 hown hV hP (ci := 1) (k := 14) jf_o0 rfl (by decide) (hts _ q468) rfl rfl dX1_least_146 ?_
  refine lv_if_ne (tgt := 154) hx hb dX1_least_149 rfl (fun c5 => ?_) (fun c5 => ?_)
  · rw [if_neg c5] at h
    refine lv_iload_n hx hb dX1_least_154 rfl (lv_at hl 3 rfl) ?_
    refine lv_iconst hx hb dX1_least_155 jx_kim1 ?_
    refine lv_icmp_ne (tgt := 164) hx hb dX1_least_156 rfl (fun c6 => ?_) (fun c6 => ?_)
    · rw [if_neg c6] at h
      refine lv_iconst hx hb dX1_least_164 jx_ki0 ?_
      obtain ⟨y7, ey7, h⟩ := jx_nx_some h
      refine jx_topi ey7 ?_
      refine lv_istore (lv' := [(4, .int y7), (0, .ref (E.1 0)), (1, .int x1), (2, .int x2), (3, .int x3)]) hx hb dX1_least_165 hl (Nat.le_of_ble_eq_true rfl) rfl (fun ls hl => ?_)
      exact jf_least_h167_ok hX F F _ h _ _ _ hP hS (lv_sub hl [1, 4, 0] rfl)
    · rw [if_pos c6] at h
      refine lv_aload_n hx hb dX1_least_159 rfl (lv_at hl 0 rfl) ?_
      refine jf_get hx hb hts in_X1 hown hV hP (ci := 1) (k := 13) jf_o0 rfl (by decide) (hts _ q467) rfl rfl dX1_least_160 ?_
      exact jf_xiret hx hb hr hlk hV hP hS h dX1_least_163
  · rw [if_pos c5] at h
    refine lv_iconst hx hb dX1_least_152 jx_kim1 ?_
    exact jf_xiret hx hb hr hlk hV hP hS h dX1_least_153
theorem jf_least_L40_ok {out : (Int32 ⊕ Nat) × jf_S} (hX : jf_OkX RX1 l p R s m args meth c A D E cX1_least 5 (some .int) 16 out) (F : Nat) {r40 : Int32 × Int32 × Int32 × Int32 × jf_S → Option ((Int32 ⊕ Nat) × jf_S)} (hr40 : ∀ a, r40 a = some out → jf_J p l e R s m args below meth c A D E fo pl 5 (jf_QXi below args s A D E fo pl out) 40 [(0, .ref (E.1 0)), (1, .int a.1), (2, .int a.2.1), (3, .int a.2.2.1), (4, .int a.2.2.2.1)] [] a.2.2.2.2) (x1 : Int32) (x2 : Int32) (x3 : Int32) (x4 : Int32) (S : jf_S) (h : jf_least_L40 F r40 x1 x2 x3 x4 S = some out) : jf_J p l e R s m args below meth c A D E fo pl 5 (jf_QXi below args s A D E fo pl out) 40 [(0, .ref (E.1 0)), (1, .int x1), (2, .int x2), (3, .int x3), (4, .int x4)] [] S := by
  intro H locs ls hP hS hl
  have hX0 := hX
  obtain ⟨⟨hx, hb, hml, hown, hts, hlk, hr, hlv, hV, het⟩, hfl, hcx⟩ := hX0
  unfold jf_least_L40 at h
  refine lv_iload hx hb dX1_least_40 (lv_at hl 4 rfl) ?_
  refine lv_aload_n hx hb dX1_least_42 rfl (lv_at hl 0 rfl) ?_
  refine jf_get hx hb hts in_X1 hown hV hP (ci := 1) (k := 1) jf_o0 rfl (by decide) (hts _ q455) rfl rfl dX1_least_43 ?_
  refine jf_getN hx hb hts in_X4 hown hV hP (ci := 3) (k := 13) (jf_oP (Or.inl rfl)) rfl (by decide) (jf_l_X1_70 hV.2.2.1) rfl rfl dX1_least_46 ?_
  refine lv_icmp_ge (tgt := 107) hx hb dX1_least_49 rfl (fun c1 => ?_) (fun c1 => ?_)
  · rw [if_pos c1] at h
    exact jf_least_b107_ok hX F _ _ _ _ h _ _ _ hP hS (lv_sub hl [0, 1, 2, 3] rfl)
  · rw [if_neg c1] at h
    refine lv_aload_n hx hb dX1_least_52 rfl (lv_at hl 0 rfl) ?_
    refine jf_get hx hb hts in_X1 hown hV hP (ci := 1) (k := 11) jf_o0 rfl (by decide) (hts _ q465) rfl rfl dX1_least_53 ?_
    refine lv_bipush hx hb dX1_least_56 jx_kb6 ?_
    refine lv_icmp_ge (tgt := 107) hx hb dX1_least_58 rfl (fun c2 => ?_) (fun c2 => ?_)
    · rw [if_pos c2] at h
      exact jf_least_b107_ok hX F _ _ _ _ h _ _ _ hP hS (lv_sub hl [0, 1, 2, 3] rfl)
    · rw [if_neg c2] at h
      refine lv_aload_n hx hb dX1_least_61 rfl (lv_at hl 0 rfl) ?_
      refine jf_get hx hb hts in_X1 hown hV hP (ci := 1) (k := 1) jf_o0 rfl (by decide) (hts _ q455) rfl rfl dX1_least_62 ?_
      refine jf_getN hx hb hts in_X4 hown hV hP (ci := 3) (k := 0) (jf_oP (Or.inl rfl)) rfl (by decide) (jf_l_X1_81 hV.2.2.1) rfl rfl dX1_least_65 ?_
      refine lv_iload hx hb dX1_least_68 (lv_at hl 4 rfl) ?_
      obtain ⟨j3, ej3, bj3, h⟩ := jx_ga_some h
      obtain ⟨r4, er4, h⟩ := jx_bi_some h
      refine jf_qald hx hb hV hP (jf_aP0 (Or.inl rfl)) ej3 bj3 er4 dX1_least_70 (fun r4a r4h => ?_)
      obtain ⟨q5, eq5, h⟩ := jx_bi_some h
      refine jv_isJump_X1 hx hb hml hown hts hlv hV r4h eq5 (Nat.le_of_ble_eq_true rfl) hP hS hl.1 rfl rfl (lv_room (Nat.le_of_ble_eq_true rfl)) dX1_least_71 (fun H locs hP hS => ?_)
      refine lv_if_ne (tgt := 80) hx hb dX1_least_74 rfl (fun c6 => ?_) (fun c6 => ?_)
      · rw [if_neg c6] at h
        refine lv_aload_n hx hb dX1_least_80 rfl (lv_at hl 0 rfl) ?_
        refine jf_get hx hb hts in_X1 hown hV hP (ci := 1) (k := 8) jf_o0 rfl (by decide) (hts _ q462) rfl rfl dX1_least_81 ?_
        refine lv_aload_n hx hb dX1_least_84 rfl (lv_at hl 0 rfl) ?_
        refine jf_get hx hb hts in_X1 hown hV hP (ci := 1) (k := 11) jf_o0 rfl (by decide) (hts _ q465) rfl rfl dX1_least_85 ?_
        refine lv_iload hx hb dX1_least_88 (lv_at hl 4 rfl) ?_
        obtain ⟨j7, ej7, bj7, h⟩ := jx_ga_some h
        obtain ⟨S8, eS8, h⟩ := jx_nx_some h
        refine jf_iast hx hb hV hP hS jf_a0_8 ej7 bj7 eS8 dX1_least_90 (fun H locs hP hS => ?_)
        refine lv_aload_n hx hb dX1_least_91 rfl (lv_at hl 0 rfl) ?_
        refine lv_dup hx hb dX1_least_92 rfl ?_
        refine jf_get hx hb hts in_X1 hown hV hP (ci := 1) (k := 11) jf_o0 rfl (by decide) (hts _ q465) rfl rfl dX1_least_93 ?_
        refine lv_iconst hx hb dX1_least_96 jx_ki1 ?_
        refine lv_iadd hx hb dX1_least_97 ?_
        obtain ⟨S9, eS9, h⟩ := jx_nx_some h
        refine jf_put (S1 := S9) hx hb hts in_X1 tyX1_ok nmX1 hown hV hP hS (ci := 1) (k := 11) (by rw [eS9]; rfl) jf_o0 (by rw [eS9]; exact jf_s0_11 _) rfl (by decide) (hts _ q465) rfl rfl (tyX1_ok 11 (by decide)) ⟨rfl, rfl⟩ (Nat.le_of_ble_eq_true rfl) dX1_least_98 (fun H locs hP hS => ?_)
        exact jf_least_b101_ok hX F hr40 _ _ _ _ _ h _ _ _ hP hS hl
      · rw [if_pos c6] at h
        refine lv_goto (tgt := 101) hx hb dX1_least_77 rfl ?_
        exact jf_least_b101_ok hX F hr40 _ _ _ _ _ h _ _ _ hP hS hl
theorem jf_least_h40_ok {out : (Int32 ⊕ Nat) × jf_S} (hX : jf_OkX RX1 l p R s m args meth c A D E cX1_least 5 (some .int) 16 out) (F : Nat) (n : Nat) (a : Int32 × Int32 × Int32 × Int32 × jf_S) (h : jf_least_h40 F n a = some out) : jf_J p l e R s m args below meth c A D E fo pl 5 (jf_QXi below args s A D E fo pl out) 40 [(0, .ref (E.1 0)), (1, .int a.1), (2, .int a.2.1), (3, .int a.2.2.1), (4, .int a.2.2.2.1)] [] a.2.2.2.2 :=
  jx_loop_ind (J := fun a => jf_J p l e R s m args below meth c A D E fo pl 5 (jf_QXi below args s A D E fo pl out) 40 [(0, .ref (E.1 0)), (1, .int a.1), (2, .int a.2.1), (3, .int a.2.2.1), (4, .int a.2.2.2.1)] [] a.2.2.2.2) (fun r hr a h => jf_least_L40_ok hX F hr a.1 a.2.1 a.2.2.1 a.2.2.2.1 a.2.2.2.2 h) n a h
theorem jf_least_b32_ok {out : (Int32 ⊕ Nat) × jf_S} (hX : jf_OkX RX1 l p R s m args meth c A D E cX1_least 5 (some .int) 16 out) (F : Nat) (x1 : Int32) (x2 : Int32) (x3 : Int32) (S : jf_S) (h : jf_least_b32 F x1 x2 x3 S = some out) : jf_J p l e R s m args below meth c A D E fo pl 5 (jf_QXi below args s A D E fo pl out) 32 [(0, .ref (E.1 0)), (1, .int x1), (2, .int x2), (3, .int x3)] [] S := by
  intro H locs ls hP hS hl
  have hX0 := hX
  obtain ⟨⟨hx, hb, hml, hown, hts, hlk, hr, hlv, hV, het⟩, hfl, hcx⟩ := hX0
  unfold jf_least_b32 at h
  refine lv_aload_n hx hb dX1_least_32 rfl (lv_at hl 0 rfl) ?_
  refine lv_iconst hx hb dX1_least_33 jx_ki0 ?_
  obtain ⟨S1, eS1, h⟩ := jx_nx_some h
  refine jf_put (S1 := S1) hx hb hts in_X1 tyX1_ok nmX1 hown hV hP hS (ci := 1) (k := 11) (by rw [eS1]; rfl) jf_o0 (by rw [eS1]; exact jf_s0_11 _) rfl (by decide) (hts _ q465) rfl rfl (tyX1_ok 11 (by decide)) ⟨rfl, rfl⟩ (Nat.le_of_ble_eq_true rfl) dX1_least_34 (fun H locs hP hS => ?_)
  refine lv_iconst hx hb dX1_least_37 jx_ki0 ?_
  obtain ⟨y2, ey2, h⟩ := jx_nx_some h
  refine jx_topi ey2 ?_
  refine lv_istore (lv' := [(4, .int y2), (0, .ref (E.1 0)), (1, .int x1), (2, .int x2), (3, .int x3)]) hx hb dX1_least_38 hl (Nat.le_of_ble_eq_true rfl) rfl (fun ls hl => ?_)
  exact jf_least_h40_ok hX F F _ h _ _ _ hP hS (lv_sub hl [1, 2, 3, 4, 0] rfl)
theorem jf_least_ok {out : (Int32 ⊕ Nat) × jf_S} (hX : jf_OkX RX1 l p R s m args meth c A D E cX1_least 5 (some .int) 16 out) (F : Nat) (x1 : Int32) (x2 : Int32) (x3 : Int32) (S : jf_S) (h : jf_least F x1 x2 x3 S = some out) : jf_J p l e R s m args below meth c A D E fo pl 5 (jf_QXi below args s A D E fo pl out) 0 [(0, .ref (E.1 0)), (1, .int x1), (2, .int x2), (3, .int x3)] [] S := by
  intro H locs ls hP hS hl
  have hX0 := hX
  obtain ⟨⟨hx, hb, hml, hown, hts, hlk, hr, hlv, hV, het⟩, hfl, hcx⟩ := hX0
  unfold jf_least at h
  refine lv_aload_n hx hb dX1_least_0 rfl (lv_at hl 0 rfl) ?_
  refine lv_iload_n hx hb dX1_least_1 rfl (lv_at hl 1 rfl) ?_
  refine (jx_xb_some h).elim (fun gv1 => ?_) (fun gv1 => ?_)
  · obtain ⟨v1, S2, ev1, h⟩ := gv1
    refine jf_callV (ci := 1) (out := S2) hx hb hml hown hts hlv hV (jf_isPower_met hfl ev1) jf_isPower_g_X1 jf_isPower_d (As := [.int x1]) (Nat.le_of_ble_eq_true rfl) (Nat.le_of_ble_eq_true rfl) hP hS jf_o0 rfl hl.1 rfl rfl (lv_room (Nat.le_of_ble_eq_true rfl)) dX1_least_2 (fun H locs hP hS => ?_)
    refine lv_aload_n hx hb dX1_least_5 rfl (lv_at hl 0 rfl) ?_
    refine lv_iload_n hx hb dX1_least_6 rfl (lv_at hl 2 rfl) ?_
    refine (jx_xb_some h).elim (fun gv3 => ?_) (fun gv3 => ?_)
    · obtain ⟨v3, S4, ev3, h⟩ := gv3
      refine jf_callV (ci := 1) (out := S4) hx hb hml hown hts hlv hV (jf_isHarm_met hfl ev3) jf_isHarm_g_X1 jf_isHarm_d (As := [.int x2]) (Nat.le_of_ble_eq_true rfl) (Nat.le_of_ble_eq_true rfl) hP hS jf_o0 rfl hl.1 rfl rfl (lv_room (Nat.le_of_ble_eq_true rfl)) dX1_least_7 (fun H locs hP hS => ?_)
      refine lv_iload_n hx hb dX1_least_10 rfl (lv_at hl 3 rfl) ?_
      refine lv_iconst hx hb dX1_least_11 jx_kim1 ?_
      refine lv_icmp_eq (tgt := 32) hx hb dX1_least_12 rfl (fun c5 => ?_) (fun c5 => ?_)
      · rw [if_pos c5] at h
        exact jf_least_b32_ok hX F _ _ _ _ h _ _ _ hP hS hl
      · rw [if_neg c5] at h
        refine lv_iload_n hx hb dX1_least_15 rfl (lv_at hl 3 rfl) ?_
        refine lv_iconst hx hb dX1_least_16 jx_ki0 ?_
        refine lv_aload_n hx hb dX1_least_17 rfl (lv_at hl 0 rfl) ?_
        refine jf_get hx hb hts in_X1 hown hV hP (ci := 1) (k := 1) jf_o0 rfl (by decide) (hts _ q455) rfl rfl dX1_least_18 ?_
        refine jf_getN hx hb hts in_X4 hown hV hP (ci := 3) (k := 13) (jf_oP (Or.inl rfl)) rfl (by decide) (jf_l_X1_70 hV.2.2.1) rfl rfl dX1_least_21 ?_
        refine lv_iconst hx hb dX1_least_24 jx_ki1 ?_
        refine lv_isub hx hb dX1_least_25 ?_
        obtain ⟨q6, eq6, h⟩ := jx_bi_some h
        refine jx_callSi hx hb hml hown hts (jf_isIn_met eq6) jf_isIn_g_X1 jf_isIn_d (As := [.int x3, .int (nI 0), .int ((S4.1 3 13) - (nI 1))]) (⟨Nat.le_trans (Nat.le_of_ble_eq_true rfl) hlv.1, Nat.le_trans (Nat.le_of_ble_eq_true rfl) hlv.2⟩) hl.1 rfl rfl (lv_room (Nat.le_of_ble_eq_true rfl)) dX1_least_26 ⟨Nat.zero_le _, Nat.zero_le _⟩ ?_
        refine (jx_xb_some h).elim (fun gv7 => ?_) (fun gv7 => ?_)
        · obtain ⟨v7, S8, ev7, h⟩ := gv7
          refine jf_callVS (out := S8) hx hb hml hown hts hlv hV (jf_mustBe_met hfl ev7) jf_mustBe_g_X1 jf_mustBe_d (As := [.int q6]) (Nat.le_of_ble_eq_true rfl) (Nat.le_of_ble_eq_true rfl) hP hS hl.1 rfl rfl (lv_room (Nat.le_of_ble_eq_true rfl)) dX1_least_29 (fun H locs hP hS => ?_)
          exact jf_least_b32_ok hX F _ _ _ _ h _ _ _ hP hS hl
        · obtain ⟨v7, S8, ev7, ho⟩ := gv7
          subst ho
          exact jf_outS (S1 := S8) (k := v7) hx hb hml hown hts hlv hV het hlk (jf_mustBe_met hfl ev7) jf_mustBe_g_X1 jf_mustBe_d (As := [.int q6]) (Nat.le_of_ble_eq_true rfl) (Nat.le_of_ble_eq_true rfl) (hcx _ rfl) hP hS hl.1 rfl rfl (lv_room (Nat.le_of_ble_eq_true rfl)) dX1_least_29
    · obtain ⟨v3, S4, ev3, ho⟩ := gv3
      subst ho
      exact jf_outV (ci := 1) (S1 := S4) (k := v3) hx hb hml hown hts hlv hV het hlk (jf_isHarm_met hfl ev3) jf_isHarm_g_X1 jf_isHarm_d (As := [.int x2]) (Nat.le_of_ble_eq_true rfl) (Nat.le_of_ble_eq_true rfl) (hcx _ rfl) hP hS jf_o0 rfl hl.1 rfl rfl (lv_room (Nat.le_of_ble_eq_true rfl)) dX1_least_7
  · obtain ⟨v1, S2, ev1, ho⟩ := gv1
    subst ho
    exact jf_outV (ci := 1) (S1 := S2) (k := v1) hx hb hml hown hts hlv hV het hlk (jf_isPower_met hfl ev1) jf_isPower_g_X1 jf_isPower_d (As := [.int x1]) (Nat.le_of_ble_eq_true rfl) (Nat.le_of_ble_eq_true rfl) (hcx _ rfl) hP hS jf_o0 rfl hl.1 rfl rfl (lv_room (Nat.le_of_ble_eq_true rfl)) dX1_least_2
theorem jf_least_met {l : Launch} {D : va_G} {E : jf_E} {A : Nat → Prop} {fo : Nat → Nat → Option Nat} {pl : va_W} {F : Nat} (hfl : l.flags = flags0) {x1 : Int32} {x2 : Int32} {x3 : Int32} {S : jf_S} {out : (Int32 ⊕ Nat) × jf_S} (h : jf_least F x1 x2 x3 S = some out) : jf_MXi l D E A fo pl yX1_least cX1_least 5 (some .int) 16 [.ref (E.1 0), .int x1, .int x2, .int x3] S out :=
  jf_MXi_of hfl (own := RX1) ⟨by decide, rfl, Nat.le_of_ble_eq_true rfl⟩ (fun hX => jf_least_ok hX F x1 x2 x3 S h)
theorem jf_joined_d : yX1_joined.cls = RX1 ∧ yX1_joined.cls ≠ "java/lang/invoke/MethodHandle" ∧ yX1_joined.cls ≠ "java/lang/invoke/VarHandle" ∧ (parseMethodDescriptor yX1_joined.desc).map (fun d => d.parameters.length) = some 1 := by decide +kernel
theorem jf_joined_b68_ok {out : (Int32 ⊕ Nat) × jf_S} (hX : jf_OkX RX1 l p R s m args meth c A D E cX1_joined 3 (some .int) 15 out) (F : Nat) {r17 : Int32 × Int32 × jf_S → Option ((Int32 ⊕ Nat) × jf_S)} (hr17 : ∀ a, r17 a = some out → jf_J p l e R s m args below meth c A D E fo pl 3 (jf_QXi below args s A D E fo pl out) 17 [(0, .ref (E.1 0)), (1, .int a.1), (2, .int a.2.1)] [] a.2.2) (x1 : Int32) (x2 : Int32) (S : jf_S) (h : jf_joined_b68 F r17 x1 x2 S = some out) : jf_J p l e R s m args below meth c A D E fo pl 3 (jf_QXi below args s A D E fo pl out) 68 [(0, .ref (E.1 0)), (1, .int x1), (2, .int x2)] [] S := by
  intro H locs ls hP hS hl
  have hX0 := hX
  obtain ⟨⟨hx, hb, hml, hown, hts, hlk, hr, hlv, hV, het⟩, hfl, hcx⟩ := hX0
  unfold jf_joined_b68 at h
  obtain ⟨y1, ey1, h⟩ := jx_nx_some h
  refine lv_iinc (v := y1) (lv' := [(2, .int y1), (0, .ref (E.1 0)), (1, .int x1)]) hx hb dX1_joined_68 hl (k := 2) rfl (jx_inc jx_ki1 ey1) (Nat.le_of_ble_eq_true rfl) rfl (fun ls hl => ?_)
  refine lv_goto (tgt := 17) hx hb dX1_joined_71 rfl ?_
  exact hr17 _ h _ _ _ hP hS (lv_sub hl [1, 2, 0] rfl)
theorem jf_joined_b74_ok {out : (Int32 ⊕ Nat) × jf_S} (hX : jf_OkX RX1 l p R s m args meth c A D E cX1_joined 3 (some .int) 15 out) (F : Nat) (x1 : Int32) (S : jf_S) (h : jf_joined_b74 F x1 S = some out) : jf_J p l e R s m args below meth c A D E fo pl 3 (jf_QXi below args s A D E fo pl out) 74 [(0, .ref (E.1 0)), (1, .int x1)] [] S := by
  intro H locs ls hP hS hl
  have hX0 := hX
  obtain ⟨⟨hx, hb, hml, hown, hts, hlk, hr, hlv, hV, het⟩, hfl, hcx⟩ := hX0
  unfold jf_joined_b74 at h
  refine lv_aload_n hx hb dX1_joined_74 rfl (lv_at hl 0 rfl) ?_
  refine lv_iconst hx hb dX1_joined_75 jx_ki0 ?_
  obtain ⟨S1, eS1, h⟩ := jx_nx_some h
  refine jf_put (S1 := S1) hx hb hts in_X1 tyX1_ok nmX1 hown hV hP hS (ci := 1) (k := 14) (by rw [eS1]; rfl) jf_o0 (by rw [eS1]; exact jf_s0_14 _) rfl (by decide) (hts _ q468) rfl rfl (tyX1_ok 14 (by decide)) jx_nz0 (Nat.le_of_ble_eq_true rfl) dX1_joined_76 (fun H locs hP hS => ?_)
  refine lv_aload_n hx hb dX1_joined_79 rfl (lv_at hl 0 rfl) ?_
  refine lv_iconst hx hb dX1_joined_80 jx_ki0 ?_
  refine lv_iconst hx hb dX1_joined_81 jx_ki0 ?_
  refine lv_iload_n hx hb dX1_joined_82 rfl (lv_at hl 1 rfl) ?_
  obtain ⟨q2, eq2, h⟩ := jx_bi_some h
  refine jf_callV hx hb hml hown hts hlv hV (jf_parts_met eq2) jf_parts_g_X1 jf_parts_d (As := [.int (nI 0), .int (nI 0), .int x1]) (Nat.le_of_ble_eq_true rfl) (Nat.le_of_ble_eq_true rfl) hP hS (ci := 1) jf_o0 rfl hl.1 rfl rfl (lv_room (Nat.le_of_ble_eq_true rfl)) dX1_joined_83 (fun H locs hP hS => ?_)
  refine lv_aload_n hx hb dX1_joined_86 rfl (lv_at hl 0 rfl) ?_
  refine jf_get hx hb hts in_X1 hown hV hP (ci := 1) (k := 13) jf_o0 rfl (by decide) (hts _ q467) rfl rfl dX1_joined_87 ?_
  exact jf_xiret hx hb hr hlk hV hP hS h dX1_joined_90
theorem jf_joined_L17_ok {out : (Int32 ⊕ Nat) × jf_S} (hX : jf_OkX RX1 l p R s m args meth c A D E cX1_joined 3 (some .int) 15 out) (F : Nat) {r17 : Int32 × Int32 × jf_S → Option ((Int32 ⊕ Nat) × jf_S)} (hr17 : ∀ a, r17 a = some out → jf_J p l e R s m args below meth c A D E fo pl 3 (jf_QXi below args s A D E fo pl out) 17 [(0, .ref (E.1 0)), (1, .int a.1), (2, .int a.2.1)] [] a.2.2) (x1 : Int32) (x2 : Int32) (S : jf_S) (h : jf_joined_L17 F r17 x1 x2 S = some out) : jf_J p l e R s m args below meth c A D E fo pl 3 (jf_QXi below args s A D E fo pl out) 17 [(0, .ref (E.1 0)), (1, .int x1), (2, .int x2)] [] S := by
  intro H locs ls hP hS hl
  have hX0 := hX
  obtain ⟨⟨hx, hb, hml, hown, hts, hlk, hr, hlv, hV, het⟩, hfl, hcx⟩ := hX0
  unfold jf_joined_L17 at h
  refine lv_iload_n hx hb dX1_joined_17 rfl (lv_at hl 2 rfl) ?_
  refine lv_aload_n hx hb dX1_joined_18 rfl (lv_at hl 0 rfl) ?_
  refine jf_get hx hb hts in_X1 hown hV hP (ci := 1) (k := 1) jf_o0 rfl (by decide) (hts _ q455) rfl rfl dX1_joined_19 ?_
  refine jf_getN hx hb hts in_X4 hown hV hP (ci := 3) (k := 13) (jf_oP (Or.inl rfl)) rfl (by decide) (jf_l_X1_70 hV.2.2.1) rfl rfl dX1_joined_22 ?_
  refine lv_icmp_ge (tgt := 74) hx hb dX1_joined_25 rfl (fun c1 => ?_) (fun c1 => ?_)
  · rw [if_pos c1] at h
    exact jf_joined_b74_ok hX F _ _ h _ _ _ hP hS (lv_sub hl [0, 1] rfl)
  · rw [if_neg c1] at h
    refine lv_aload_n hx hb dX1_joined_28 rfl (lv_at hl 0 rfl) ?_
    refine jf_get hx hb hts in_X1 hown hV hP (ci := 1) (k := 11) jf_o0 rfl (by decide) (hts _ q465) rfl rfl dX1_joined_29 ?_
    refine lv_bipush hx hb dX1_joined_32 jx_kb6 ?_
    refine lv_icmp_ge (tgt := 74) hx hb dX1_joined_34 rfl (fun c2 => ?_) (fun c2 => ?_)
    · rw [if_pos c2] at h
      exact jf_joined_b74_ok hX F _ _ h _ _ _ hP hS (lv_sub hl [0, 1] rfl)
    · rw [if_neg c2] at h
      refine lv_aload_n hx hb dX1_joined_37 rfl (lv_at hl 0 rfl) ?_
      refine lv_iload_n hx hb dX1_joined_38 rfl (lv_at hl 2 rfl) ?_
      obtain ⟨q3, eq3, h⟩ := jx_bi_some h
      refine jf_callI hx hb hml hown hts hlv hV (jf_isGuarded_met eq3) jf_isGuarded_g_X1 jf_isGuarded_d (As := [.int x2]) (Nat.le_of_ble_eq_true rfl) (Nat.le_of_ble_eq_true rfl) hP hS (ci := 1) jf_o0 rfl hl.1 rfl rfl (lv_room (Nat.le_of_ble_eq_true rfl)) dX1_joined_39 (fun H locs hP hS => ?_)
      refine lv_if_ne (tgt := 48) hx hb dX1_joined_42 rfl (fun c4 => ?_) (fun c4 => ?_)
      · rw [if_neg c4] at h
        refine lv_aload_n hx hb dX1_joined_48 rfl (lv_at hl 0 rfl) ?_
        refine jf_get hx hb hts in_X1 hown hV hP (ci := 1) (k := 8) jf_o0 rfl (by decide) (hts _ q462) rfl rfl dX1_joined_49 ?_
        refine lv_aload_n hx hb dX1_joined_52 rfl (lv_at hl 0 rfl) ?_
        refine jf_get hx hb hts in_X1 hown hV hP (ci := 1) (k := 11) jf_o0 rfl (by decide) (hts _ q465) rfl rfl dX1_joined_53 ?_
        refine lv_iload_n hx hb dX1_joined_56 rfl (lv_at hl 2 rfl) ?_
        obtain ⟨j5, ej5, bj5, h⟩ := jx_ga_some h
        obtain ⟨S6, eS6, h⟩ := jx_nx_some h
        refine jf_iast hx hb hV hP hS jf_a0_8 ej5 bj5 eS6 dX1_joined_57 (fun H locs hP hS => ?_)
        refine lv_aload_n hx hb dX1_joined_58 rfl (lv_at hl 0 rfl) ?_
        refine lv_dup hx hb dX1_joined_59 rfl ?_
        refine jf_get hx hb hts in_X1 hown hV hP (ci := 1) (k := 11) jf_o0 rfl (by decide) (hts _ q465) rfl rfl dX1_joined_60 ?_
        refine lv_iconst hx hb dX1_joined_63 jx_ki1 ?_
        refine lv_iadd hx hb dX1_joined_64 ?_
        obtain ⟨S7, eS7, h⟩ := jx_nx_some h
        refine jf_put (S1 := S7) hx hb hts in_X1 tyX1_ok nmX1 hown hV hP hS (ci := 1) (k := 11) (by rw [eS7]; rfl) jf_o0 (by rw [eS7]; exact jf_s0_11 _) rfl (by decide) (hts _ q465) rfl rfl (tyX1_ok 11 (by decide)) ⟨rfl, rfl⟩ (Nat.le_of_ble_eq_true rfl) dX1_joined_65 (fun H locs hP hS => ?_)
        exact jf_joined_b68_ok hX F hr17 _ _ _ h _ _ _ hP hS hl
      · rw [if_pos c4] at h
        refine lv_goto (tgt := 68) hx hb dX1_joined_45 rfl ?_
        exact jf_joined_b68_ok hX F hr17 _ _ _ h _ _ _ hP hS hl
theorem jf_joined_h17_ok {out : (Int32 ⊕ Nat) × jf_S} (hX : jf_OkX RX1 l p R s m args meth c A D E cX1_joined 3 (some .int) 15 out) (F : Nat) (n : Nat) (a : Int32 × Int32 × jf_S) (h : jf_joined_h17 F n a = some out) : jf_J p l e R s m args below meth c A D E fo pl 3 (jf_QXi below args s A D E fo pl out) 17 [(0, .ref (E.1 0)), (1, .int a.1), (2, .int a.2.1)] [] a.2.2 :=
  jx_loop_ind (J := fun a => jf_J p l e R s m args below meth c A D E fo pl 3 (jf_QXi below args s A D E fo pl out) 17 [(0, .ref (E.1 0)), (1, .int a.1), (2, .int a.2.1)] [] a.2.2) (fun r hr a h => jf_joined_L17_ok hX F hr a.1 a.2.1 a.2.2 h) n a h
theorem jf_joined_ok {out : (Int32 ⊕ Nat) × jf_S} (hX : jf_OkX RX1 l p R s m args meth c A D E cX1_joined 3 (some .int) 15 out) (F : Nat) (x1 : Int32) (S : jf_S) (h : jf_joined F x1 S = some out) : jf_J p l e R s m args below meth c A D E fo pl 3 (jf_QXi below args s A D E fo pl out) 0 [(0, .ref (E.1 0)), (1, .int x1)] [] S := by
  intro H locs ls hP hS hl
  have hX0 := hX
  obtain ⟨⟨hx, hb, hml, hown, hts, hlk, hr, hlv, hV, het⟩, hfl, hcx⟩ := hX0
  unfold jf_joined at h
  refine lv_iload_n hx hb dX1_joined_0 rfl (lv_at hl 1 rfl) ?_
  refine lv_iconst hx hb dX1_joined_1 jx_ki1 ?_
  refine lv_bipush hx hb dX1_joined_2 jx_kb16 ?_
  obtain ⟨q1, eq1, h⟩ := jx_bi_some h
  refine jx_callSi hx hb hml hown hts (jf_isIn_met eq1) jf_isIn_g_X1 jf_isIn_d (As := [.int x1, .int (nI 1), .int (nI 16)]) (⟨Nat.le_trans (Nat.le_of_ble_eq_true rfl) hlv.1, Nat.le_trans (Nat.le_of_ble_eq_true rfl) hlv.2⟩) hl.1 rfl rfl (lv_room (Nat.le_of_ble_eq_true rfl)) dX1_joined_4 ⟨Nat.zero_le _, Nat.zero_le _⟩ ?_
  refine (jx_xb_some h).elim (fun gv2 => ?_) (fun gv2 => ?_)
  · obtain ⟨v2, S3, ev2, h⟩ := gv2
    refine jf_callVS (out := S3) hx hb hml hown hts hlv hV (jf_must_met hfl ev2) jf_must_g_X1 jf_must_d (As := [.int q1]) (Nat.le_of_ble_eq_true rfl) (Nat.le_of_ble_eq_true rfl) hP hS hl.1 rfl rfl (lv_room (Nat.le_of_ble_eq_true rfl)) dX1_joined_7 (fun H locs hP hS => ?_)
    refine lv_aload_n hx hb dX1_joined_10 rfl (lv_at hl 0 rfl) ?_
    refine lv_iconst hx hb dX1_joined_11 jx_ki0 ?_
    obtain ⟨S4, eS4, h⟩ := jx_nx_some h
    refine jf_put (S1 := S4) hx hb hts in_X1 tyX1_ok nmX1 hown hV hP hS (ci := 1) (k := 11) (by rw [eS4]; rfl) jf_o0 (by rw [eS4]; exact jf_s0_11 _) rfl (by decide) (hts _ q465) rfl rfl (tyX1_ok 11 (by decide)) ⟨rfl, rfl⟩ (Nat.le_of_ble_eq_true rfl) dX1_joined_12 (fun H locs hP hS => ?_)
    refine lv_iconst hx hb dX1_joined_15 jx_ki0 ?_
    obtain ⟨y5, ey5, h⟩ := jx_nx_some h
    refine jx_topi ey5 ?_
    refine lv_istore_n (lv' := [(2, .int y5), (0, .ref (E.1 0)), (1, .int x1)]) hx hb dX1_joined_16 rfl hl (Nat.le_of_ble_eq_true rfl) rfl (fun ls hl => ?_)
    exact jf_joined_h17_ok hX F F _ h _ _ _ hP hS (lv_sub hl [1, 2, 0] rfl)
  · obtain ⟨v2, S3, ev2, ho⟩ := gv2
    subst ho
    exact jf_outS (S1 := S3) (k := v2) hx hb hml hown hts hlv hV het hlk (jf_must_met hfl ev2) jf_must_g_X1 jf_must_d (As := [.int q1]) (Nat.le_of_ble_eq_true rfl) (Nat.le_of_ble_eq_true rfl) (hcx _ rfl) hP hS hl.1 rfl rfl (lv_room (Nat.le_of_ble_eq_true rfl)) dX1_joined_7
theorem jf_joined_met {l : Launch} {D : va_G} {E : jf_E} {A : Nat → Prop} {fo : Nat → Nat → Option Nat} {pl : va_W} {F : Nat} (hfl : l.flags = flags0) {x1 : Int32} {S : jf_S} {out : (Int32 ⊕ Nat) × jf_S} (h : jf_joined F x1 S = some out) : jf_MXi l D E A fo pl yX1_joined cX1_joined 3 (some .int) 15 [.ref (E.1 0), .int x1] S out :=
  jf_MXi_of hfl (own := RX1) ⟨by decide, rfl, Nat.le_of_ble_eq_true rfl⟩ (fun hX => jf_joined_ok hX F x1 S h)
theorem jf_fence_d : yX1_fence.cls = RX1 ∧ yX1_fence.cls ≠ "java/lang/invoke/MethodHandle" ∧ yX1_fence.cls ≠ "java/lang/invoke/VarHandle" ∧ (parseMethodDescriptor yX1_fence.desc).map (fun d => d.parameters.length) = some 4 := by decide +kernel
theorem jf_fence_b153_ok {out : (Int32 ⊕ Nat) × jf_S} (hX : jf_OkX RX1 l p R s m args meth c A D E cX1_fence 13 (some .int) 8 out) (F : Nat) {r82 : Int64 × Int32 × Int64 × Int64 × Int32 × jf_S → Option ((Int32 ⊕ Nat) × jf_S)} (hr82 : ∀ a, r82 a = some out → jf_J p l e R s m args below meth c A D E fo pl 13 (jf_QXi below args s A D E fo pl out) 82 [(0, .ref (E.1 0)), (3, .long a.1), (5, .int a.2.1), (8, .long a.2.2.1), (10, .long a.2.2.2.1), (12, .int a.2.2.2.2.1)] [] a.2.2.2.2.2) (x3 : Int64) (x5 : Int32) (x8 : Int64) (x10 : Int64) (x12 : Int32) (S : jf_S) (h : jf_fence_b153 F r82 x3 x5 x8 x10 x12 S = some out) : jf_J p l e R s m args below meth c A D E fo pl 13 (jf_QXi below args s A D E fo pl out) 153 [(0, .ref (E.1 0)), (3, .long x3), (5, .int x5), (8, .long x8), (10, .long x10), (12, .int x12)] [] S := by
  intro H locs ls hP hS hl
  have hX0 := hX
  obtain ⟨⟨hx, hb, hml, hown, hts, hlk, hr, hlv, hV, het⟩, hfl, hcx⟩ := hX0
  unfold jf_fence_b153 at h
  obtain ⟨y1, ey1, h⟩ := jx_nx_some h
  refine lv_iinc (v := y1) (lv' := [(12, .int y1), (0, .ref (E.1 0)), (3, .long x3), (5, .int x5), (8, .long x8), (10, .long x10)]) hx hb dX1_fence_153 hl (k := 5) rfl (jx_inc jx_ki1 ey1) (Nat.le_of_ble_eq_true rfl) rfl (fun ls hl => ?_)
  refine lv_goto (tgt := 82) hx hb dX1_fence_156 rfl ?_
  exact hr82 _ h _ _ _ hP hS (lv_sub hl [1, 2, 3, 4, 5, 0] rfl)
theorem jf_fence_L82_ok {out : (Int32 ⊕ Nat) × jf_S} (hX : jf_OkX RX1 l p R s m args meth c A D E cX1_fence 13 (some .int) 8 out) (F : Nat) {r82 : Int64 × Int32 × Int64 × Int64 × Int32 × jf_S → Option ((Int32 ⊕ Nat) × jf_S)} (hr82 : ∀ a, r82 a = some out → jf_J p l e R s m args below meth c A D E fo pl 13 (jf_QXi below args s A D E fo pl out) 82 [(0, .ref (E.1 0)), (3, .long a.1), (5, .int a.2.1), (8, .long a.2.2.1), (10, .long a.2.2.2.1), (12, .int a.2.2.2.2.1)] [] a.2.2.2.2.2) (x3 : Int64) (x5 : Int32) (x8 : Int64) (x10 : Int64) (x12 : Int32) (S : jf_S) (h : jf_fence_L82 F r82 x3 x5 x8 x10 x12 S = some out) : jf_J p l e R s m args below meth c A D E fo pl 13 (jf_QXi below args s A D E fo pl out) 82 [(0, .ref (E.1 0)), (3, .long x3), (5, .int x5), (8, .long x8), (10, .long x10), (12, .int x12)] [] S := by
  intro H locs ls hP hS hl
  have hX0 := hX
  obtain ⟨⟨hx, hb, hml, hown, hts, hlk, hr, hlv, hV, het⟩, hfl, hcx⟩ := hX0
  unfold jf_fence_L82 at h
  refine lv_iload hx hb dX1_fence_82 (lv_at hl 5 rfl) ?_
  refine lv_aload_n hx hb dX1_fence_84 rfl (lv_at hl 0 rfl) ?_
  refine jf_get hx hb hts in_X1 hown hV hP (ci := 1) (k := 1) jf_o0 rfl (by decide) (hts _ q455) rfl rfl dX1_fence_85 ?_
  refine jf_getN hx hb hts in_X4 hown hV hP (ci := 3) (k := 13) (jf_oP (Or.inl rfl)) rfl (by decide) (jf_l_X1_70 hV.2.2.1) rfl rfl dX1_fence_88 ?_
  refine lv_icmp_ge (tgt := 159) hx hb dX1_fence_91 rfl (fun c1 => ?_) (fun c1 => ?_)
  · rw [if_pos c1] at h
    refine lv_iconst hx hb dX1_fence_159 jx_kim1 ?_
    exact jf_xiret hx hb hr hlk hV hP hS h dX1_fence_160
  · rw [if_neg c1] at h
    refine lv_lload hx hb dX1_fence_94 (lv_at hl 3 rfl) ?_
    refine lv_iload hx hb dX1_fence_96 (lv_at hl 5 rfl) ?_
    refine lv_lshr hx hb dX1_fence_98 rfl ?_
    refine lv_lconst hx hb dX1_fence_99 jx_kl1 ?_
    refine lv_land hx hb dX1_fence_100 ?_
    refine lv_lconst hx hb dX1_fence_101 jx_kl1 ?_
    refine W.lcmp hx hb dX1_fence_102 ?_
    refine lv_if_ne (tgt := 153) hx hb dX1_fence_103 rfl (fun c2 => ?_) (fun c2 => ?_)
    · rw [if_neg c2] at h
      exact jf_fence_b153_ok hX F hr82 _ _ _ _ _ _ h _ _ _ hP hS hl
    · rw [if_pos c2] at h
      refine lv_lload hx hb dX1_fence_106 (lv_at hl 4 rfl) ?_
      refine lv_iload hx hb dX1_fence_108 (lv_at hl 5 rfl) ?_
      refine lv_lshr hx hb dX1_fence_110 rfl ?_
      refine lv_lconst hx hb dX1_fence_111 jx_kl1 ?_
      refine lv_land hx hb dX1_fence_112 ?_
      refine lv_lconst hx hb dX1_fence_113 jx_kl0 ?_
      refine W.lcmp hx hb dX1_fence_114 ?_
      refine lv_if_ne (tgt := 153) hx hb dX1_fence_115 rfl (fun c3 => ?_) (fun c3 => ?_)
      · rw [if_neg c3] at h
        exact jf_fence_b153_ok hX F hr82 _ _ _ _ _ _ h _ _ _ hP hS hl
      · rw [if_pos c3] at h
        refine lv_aload_n hx hb dX1_fence_118 rfl (lv_at hl 0 rfl) ?_
        refine jf_get hx hb hts in_X1 hown hV hP (ci := 1) (k := 1) jf_o0 rfl (by decide) (hts _ q455) rfl rfl dX1_fence_119 ?_
        refine lv_iload hx hb dX1_fence_122 (lv_at hl 5 rfl) ?_
        refine lv_aload_n hx hb dX1_fence_124 rfl (lv_at hl 0 rfl) ?_
        refine jf_get hx hb hts in_X1 hown hV hP (ci := 1) (k := 1) jf_o0 rfl (by decide) (hts _ q455) rfl rfl dX1_fence_125 ?_
        refine jf_getN hx hb hts in_X4 hown hV hP (ci := 3) (k := 1) (jf_oP (Or.inl rfl)) rfl (by decide) (jf_l_X1_128 hV.2.2.1) rfl rfl dX1_fence_128 ?_
        refine lv_iload hx hb dX1_fence_131 (lv_at hl 2 rfl) ?_
        obtain ⟨q4, eq4, h⟩ := jx_bi_some h
        refine jf_callL hx hb hml hown hts hlv hV (jp_may_met (Or.inl rfl) (Or.inl ⟨rfl, rfl⟩) eq4) jp_may_g_X1 jp_may_d (As := [.int x12, .ref (E.2.1 3 1), .int x5]) (Nat.le_of_ble_eq_true rfl) (Nat.le_of_ble_eq_true rfl) hP hS (ci := 3) (jf_oP (Or.inl rfl)) rfl hl.1 rfl rfl (lv_room (Nat.le_of_ble_eq_true rfl)) dX1_fence_133 (fun H locs hP hS => ?_)
        refine lv_lload hx hb dX1_fence_136 (lv_at hl 4 rfl) ?_
        refine lv_land hx hb dX1_fence_138 ?_
        refine lv_lload_n hx hb dX1_fence_139 rfl (lv_at hl 1 rfl) ?_
        refine lv_ldc2 hx hb hown (hts _ q1516) dX1_fence_140 ?_
        refine lv_lxor hx hb dX1_fence_143 ?_
        refine lv_land hx hb dX1_fence_144 ?_
        refine lv_lconst hx hb dX1_fence_145 jx_kl0 ?_
        refine W.lcmp hx hb dX1_fence_146 ?_
        refine lv_if_eq (tgt := 153) hx hb dX1_fence_147 rfl (fun c5 => ?_) (fun c5 => ?_)
        · rw [if_pos c5] at h
          exact jf_fence_b153_ok hX F hr82 _ _ _ _ _ _ h _ _ _ hP hS hl
        · rw [if_neg c5] at h
          refine lv_iload hx hb dX1_fence_150 (lv_at hl 5 rfl) ?_
          exact jf_xiret hx hb hr hlk hV hP hS h dX1_fence_152
theorem jf_fence_h82_ok {out : (Int32 ⊕ Nat) × jf_S} (hX : jf_OkX RX1 l p R s m args meth c A D E cX1_fence 13 (some .int) 8 out) (F : Nat) (n : Nat) (a : Int64 × Int32 × Int64 × Int64 × Int32 × jf_S) (h : jf_fence_h82 F n a = some out) : jf_J p l e R s m args below meth c A D E fo pl 13 (jf_QXi below args s A D E fo pl out) 82 [(0, .ref (E.1 0)), (3, .long a.1), (5, .int a.2.1), (8, .long a.2.2.1), (10, .long a.2.2.2.1), (12, .int a.2.2.2.2.1)] [] a.2.2.2.2.2 :=
  jx_loop_ind (J := fun a => jf_J p l e R s m args below meth c A D E fo pl 13 (jf_QXi below args s A D E fo pl out) 82 [(0, .ref (E.1 0)), (3, .long a.1), (5, .int a.2.1), (8, .long a.2.2.1), (10, .long a.2.2.2.1), (12, .int a.2.2.2.2.1)] [] a.2.2.2.2.2) (fun r hr a h => jf_fence_L82_ok hX F hr a.1 a.2.1 a.2.2.1 a.2.2.2.1 a.2.2.2.2.1 a.2.2.2.2.2 h) n a h
theorem jf_fence_L57_ok {out : (Int32 ⊕ Nat) × jf_S} (hX : jf_OkX RX1 l p R s m args meth c A D E cX1_fence 13 (some .int) 8 out) (F : Nat) {r57 : Int32 × Int64 × Int32 × Int64 × Int64 × Int32 × jf_S → Option ((Int32 ⊕ Nat) × jf_S)} (hr57 : ∀ a, r57 a = some out → jf_J p l e R s m args below meth c A D E fo pl 13 (jf_QXi below args s A D E fo pl out) 57 [(0, .ref (E.1 0)), (2, .int a.1), (3, .long a.2.1), (5, .int a.2.2.1), (8, .long a.2.2.2.1), (10, .long a.2.2.2.2.1), (12, .int a.2.2.2.2.2.1)] [] a.2.2.2.2.2.2) (x2 : Int32) (x3 : Int64) (x5 : Int32) (x8 : Int64) (x10 : Int64) (x12 : Int32) (S : jf_S) (h : jf_fence_L57 F r57 x2 x3 x5 x8 x10 x12 S = some out) : jf_J p l e R s m args below meth c A D E fo pl 13 (jf_QXi below args s A D E fo pl out) 57 [(0, .ref (E.1 0)), (2, .int x2), (3, .long x3), (5, .int x5), (8, .long x8), (10, .long x10), (12, .int x12)] [] S := by
  intro H locs ls hP hS hl
  have hX0 := hX
  obtain ⟨⟨hx, hb, hml, hown, hts, hlk, hr, hlv, hV, het⟩, hfl, hcx⟩ := hX0
  unfold jf_fence_L57 at h
  refine lv_iload hx hb dX1_fence_57 (lv_at hl 6 rfl) ?_
  refine lv_iload_n hx hb dX1_fence_59 rfl (lv_at hl 1 rfl) ?_
  refine lv_icmp_gt (tgt := 79) hx hb dX1_fence_60 rfl (fun c1 => ?_) (fun c1 => ?_)
  · rw [if_pos c1] at h
    refine lv_iconst hx hb dX1_fence_79 jx_ki0 ?_
    obtain ⟨y2, ey2, h⟩ := jx_nx_some h
    refine jx_topi ey2 ?_
    refine lv_istore (lv' := [(12, .int y2), (0, .ref (E.1 0)), (2, .int x2), (3, .long x3), (5, .int x5), (8, .long x8), (10, .long x10)]) hx hb dX1_fence_80 hl (Nat.le_of_ble_eq_true rfl) rfl (fun ls hl => ?_)
    exact jf_fence_h82_ok hX F F _ h _ _ _ hP hS (lv_sub hl [1, 3, 4, 5, 6, 0] rfl)
  · rw [if_neg c1] at h
    refine lv_lload hx hb dX1_fence_63 (lv_at hl 5 rfl) ?_
    refine lv_iload hx hb dX1_fence_65 (lv_at hl 6 rfl) ?_
    obtain ⟨q3, eq3, h⟩ := jx_bi_some h
    refine jx_callSl hx hb hml hown hts (jf_bit_met eq3) jf_bit_g_X1 jf_bit_d (As := [.int x12]) (⟨Nat.le_trans (Nat.le_of_ble_eq_true rfl) hlv.1, Nat.le_trans (Nat.le_of_ble_eq_true rfl) hlv.2⟩) hl.1 rfl rfl (lv_room (Nat.le_of_ble_eq_true rfl)) dX1_fence_67 ⟨Nat.zero_le _, Nat.zero_le _⟩ ?_
    refine lv_lor hx hb dX1_fence_70 ?_
    obtain ⟨y4, ey4, h⟩ := jx_nx_some h
    refine jx_topl ey4 ?_
    refine lv_lstore (lv' := [(10, .long y4), (0, .ref (E.1 0)), (2, .int x2), (3, .long x3), (5, .int x5), (8, .long x8), (12, .int x12)]) hx hb dX1_fence_71 hl (Nat.le_of_ble_eq_true rfl) rfl (fun ls hl => ?_)
    obtain ⟨y5, ey5, h⟩ := jx_nx_some h
    refine lv_iinc (v := y5) (lv' := [(12, .int y5), (10, .long y4), (0, .ref (E.1 0)), (2, .int x2), (3, .long x3), (5, .int x5), (8, .long x8)]) hx hb dX1_fence_73 hl (k := 6) rfl (jx_inc jx_ki1 ey5) (Nat.le_of_ble_eq_true rfl) rfl (fun ls hl => ?_)
    refine lv_goto (tgt := 57) hx hb dX1_fence_76 rfl ?_
    exact hr57 _ h _ _ _ hP hS (lv_sub hl [2, 3, 4, 5, 6, 1, 0] rfl)
theorem jf_fence_h57_ok {out : (Int32 ⊕ Nat) × jf_S} (hX : jf_OkX RX1 l p R s m args meth c A D E cX1_fence 13 (some .int) 8 out) (F : Nat) (n : Nat) (a : Int32 × Int64 × Int32 × Int64 × Int64 × Int32 × jf_S) (h : jf_fence_h57 F n a = some out) : jf_J p l e R s m args below meth c A D E fo pl 13 (jf_QXi below args s A D E fo pl out) 57 [(0, .ref (E.1 0)), (2, .int a.1), (3, .long a.2.1), (5, .int a.2.2.1), (8, .long a.2.2.2.1), (10, .long a.2.2.2.2.1), (12, .int a.2.2.2.2.2.1)] [] a.2.2.2.2.2.2 :=
  jx_loop_ind (J := fun a => jf_J p l e R s m args below meth c A D E fo pl 13 (jf_QXi below args s A D E fo pl out) 57 [(0, .ref (E.1 0)), (2, .int a.1), (3, .long a.2.1), (5, .int a.2.2.1), (8, .long a.2.2.2.1), (10, .long a.2.2.2.2.1), (12, .int a.2.2.2.2.2.1)] [] a.2.2.2.2.2.2) (fun r hr a h => jf_fence_L57_ok hX F hr a.1 a.2.1 a.2.2.1 a.2.2.2.1 a.2.2.2.2.1 a.2.2.2.2.2.1 a.2.2.2.2.2.2 h) n a h
theorem jf_fence_b30_ok {out : (Int32 ⊕ Nat) × jf_S} (hX : jf_OkX RX1 l p R s m args meth c A D E cX1_fence 13 (some .int) 8 out) (F : Nat) (x1 : Int32) (x2 : Int32) (x3 : Int64) (x5 : Int32) (k0 : Int32) (S : jf_S) (h : jf_fence_b30 F x1 x2 x3 x5 k0 S = some out) : jf_J p l e R s m args below meth c A D E fo pl 13 (jf_QXi below args s A D E fo pl out) 30 [(0, .ref (E.1 0)), (1, .int x1), (2, .int x2), (3, .long x3), (5, .int x5)] [.int k0] S := by
  intro H locs ls hP hS hl
  have hX0 := hX
  obtain ⟨⟨hx, hb, hml, hown, hts, hlk, hr, hlv, hV, het⟩, hfl, hcx⟩ := hX0
  unfold jf_fence_b30 at h
  refine (jx_xb_some h).elim (fun gv1 => ?_) (fun gv1 => ?_)
  · obtain ⟨v1, S2, ev1, h⟩ := gv1
    refine jf_callVS (out := S2) hx hb hml hown hts hlv hV (jf_must_met hfl ev1) jf_must_g_X1 jf_must_d (As := [.int k0]) (Nat.le_of_ble_eq_true rfl) (Nat.le_of_ble_eq_true rfl) hP hS hl.1 rfl rfl (lv_room (Nat.le_of_ble_eq_true rfl)) dX1_fence_30 (fun H locs hP hS => ?_)
    refine lv_aload_n hx hb dX1_fence_33 rfl (lv_at hl 0 rfl) ?_
    refine jf_get hx hb hts in_X1 hown hV hP (ci := 1) (k := 1) jf_o0 rfl (by decide) (hts _ q455) rfl rfl dX1_fence_34 ?_
    refine lv_aload_n hx hb dX1_fence_37 rfl (lv_at hl 0 rfl) ?_
    refine jf_get hx hb hts in_X1 hown hV hP (ci := 1) (k := 1) jf_o0 rfl (by decide) (hts _ q455) rfl rfl dX1_fence_38 ?_
    refine jf_getN hx hb hts in_X4 hown hV hP (ci := 3) (k := 1) (jf_oP (Or.inl rfl)) rfl (by decide) (jf_l_X1_128 hV.2.2.1) rfl rfl dX1_fence_41 ?_
    refine lv_iload hx hb dX1_fence_44 (lv_at hl 4 rfl) ?_
    obtain ⟨q3, eq3, h⟩ := jx_bi_some h
    refine jf_callL hx hb hml hown hts hlv hV (jp_closed_met (Or.inl rfl) (Or.inl ⟨rfl, rfl⟩) eq3) jp_closed_g_X1 jp_closed_d (As := [.ref (E.2.1 3 1), .int x5]) (Nat.le_of_ble_eq_true rfl) (Nat.le_of_ble_eq_true rfl) hP hS (ci := 3) (jf_oP (Or.inl rfl)) rfl hl.1 rfl rfl (lv_room (Nat.le_of_ble_eq_true rfl)) dX1_fence_46 (fun H locs hP hS => ?_)
    obtain ⟨y4, ey4, h⟩ := jx_nx_some h
    refine jx_topl ey4 ?_
    refine lv_lstore (lv' := [(8, .long y4), (0, .ref (E.1 0)), (1, .int x1), (2, .int x2), (3, .long x3), (5, .int x5)]) hx hb dX1_fence_49 hl (Nat.le_of_ble_eq_true rfl) rfl (fun ls hl => ?_)
    refine lv_lconst hx hb dX1_fence_51 jx_kl0 ?_
    obtain ⟨y5, ey5, h⟩ := jx_nx_some h
    refine jx_topl ey5 ?_
    refine lv_lstore (lv' := [(10, .long y5), (8, .long y4), (0, .ref (E.1 0)), (1, .int x1), (2, .int x2), (3, .long x3), (5, .int x5)]) hx hb dX1_fence_52 hl (Nat.le_of_ble_eq_true rfl) rfl (fun ls hl => ?_)
    refine lv_iload_n hx hb dX1_fence_54 rfl (lv_at hl 3 rfl) ?_
    refine lv_istore (lv' := [(12, .int x1), (10, .long y5), (8, .long y4), (0, .ref (E.1 0)), (1, .int x1), (2, .int x2), (3, .long x3), (5, .int x5)]) hx hb dX1_fence_55 hl (Nat.le_of_ble_eq_true rfl) rfl (fun ls hl => ?_)
    exact jf_fence_h57_ok hX F F _ h _ _ _ hP hS (lv_sub hl [3, 5, 6, 7, 2, 1, 0] rfl)
  · obtain ⟨v1, S2, ev1, ho⟩ := gv1
    subst ho
    exact jf_outS (S1 := S2) (k := v1) hx hb hml hown hts hlv hV het hlk (jf_must_met hfl ev1) jf_must_g_X1 jf_must_d (As := [.int k0]) (Nat.le_of_ble_eq_true rfl) (Nat.le_of_ble_eq_true rfl) (hcx _ rfl) hP hS hl.1 rfl rfl (lv_room (Nat.le_of_ble_eq_true rfl)) dX1_fence_30
theorem jf_fence_ok {out : (Int32 ⊕ Nat) × jf_S} (hX : jf_OkX RX1 l p R s m args meth c A D E cX1_fence 13 (some .int) 8 out) (F : Nat) (x1 : Int32) (x2 : Int32) (x3 : Int64) (x5 : Int32) (S : jf_S) (h : jf_fence F x1 x2 x3 x5 S = some out) : jf_J p l e R s m args below meth c A D E fo pl 13 (jf_QXi below args s A D E fo pl out) 0 [(0, .ref (E.1 0)), (1, .int x1), (2, .int x2), (3, .long x3), (5, .int x5)] [] S := by
  intro H locs ls hP hS hl
  have hX0 := hX
  obtain ⟨⟨hx, hb, hml, hown, hts, hlk, hr, hlv, hV, het⟩, hfl, hcx⟩ := hX0
  unfold jf_fence at h
  refine lv_aload_n hx hb dX1_fence_0 rfl (lv_at hl 0 rfl) ?_
  refine lv_iload_n hx hb dX1_fence_1 rfl (lv_at hl 1 rfl) ?_
  refine (jx_xb_some h).elim (fun gv1 => ?_) (fun gv1 => ?_)
  · obtain ⟨v1, S2, ev1, h⟩ := gv1
    refine jf_callO (ci := 1) (out := (v1, S2)) hx hb hml hown hts hlv hV (jf_orderAt_met hfl ev1) jf_orderAt_g_X1 jf_orderAt_d (As := [.int x1]) (Nat.le_of_ble_eq_true rfl) (Nat.le_of_ble_eq_true rfl) hP hS jf_o0 rfl hl.1 rfl rfl (lv_room (Nat.le_of_ble_eq_true rfl)) dX1_fence_2 (fun v1a H locs v1h hP hS => ?_)
    refine lv_astore (lv' := [(6, .ref v1a), (0, .ref (E.1 0)), (1, .int x1), (2, .int x2), (3, .long x3), (5, .int x5)]) hx hb dX1_fence_5 hl (Nat.le_of_ble_eq_true rfl) rfl (fun ls hl => ?_)
    refine lv_aload_n hx hb dX1_fence_7 rfl (lv_at hl 1 rfl) ?_
    refine lv_iload_n hx hb dX1_fence_8 rfl (lv_at hl 3 rfl) ?_
    refine (jx_xb_some h).elim (fun gv3 => ?_) (fun gv3 => ?_)
    · obtain ⟨v3, S4, ev3, h⟩ := gv3
      refine jf_callO (ci := 1) (out := (v3, S4)) hx hb hml hown hts hlv hV (jf_orderAt_met hfl ev3) jf_orderAt_g_X1 jf_orderAt_d (As := [.int x2]) (Nat.le_of_ble_eq_true rfl) (Nat.le_of_ble_eq_true rfl) hP hS jf_o0 rfl hl.1 rfl rfl (lv_room (Nat.le_of_ble_eq_true rfl)) dX1_fence_9 (fun v3a H locs v3h hP hS => ?_)
      refine lv_astore (lv' := [(7, .ref v3a), (6, .ref v1a), (0, .ref (E.1 0)), (1, .int x1), (2, .int x2), (3, .long x3), (5, .int x5)]) hx hb dX1_fence_12 hl (Nat.le_of_ble_eq_true rfl) rfl (fun ls hl => ?_)
      refine lv_aload_n hx hb dX1_fence_14 rfl (lv_at hl 2 rfl) ?_
      refine lv_iload hx hb dX1_fence_15 (lv_at hl 6 rfl) ?_
      refine (jx_xb_some h).elim (fun gv5 => ?_) (fun gv5 => ?_)
      · obtain ⟨v5, S6, ev5, h⟩ := gv5
        refine jf_callV (ci := 1) (out := S6) hx hb hml hown hts hlv hV (jf_isPower_met hfl ev5) jf_isPower_g_X1 jf_isPower_d (As := [.int x5]) (Nat.le_of_ble_eq_true rfl) (Nat.le_of_ble_eq_true rfl) hP hS jf_o0 rfl hl.1 rfl rfl (lv_room (Nat.le_of_ble_eq_true rfl)) dX1_fence_17 (fun H locs hP hS => ?_)
        refine lv_iload_n hx hb dX1_fence_20 rfl (lv_at hl 3 rfl) ?_
        refine lv_iload_n hx hb dX1_fence_21 rfl (lv_at hl 4 rfl) ?_
        refine lv_icmp_gt (tgt := 29) hx hb dX1_fence_22 rfl (fun c7 => ?_) (fun c7 => ?_)
        · rw [if_pos c7] at h
          refine lv_iconst hx hb dX1_fence_29 jx_ki0 ?_
          exact jf_fence_b30_ok hX F _ _ _ _ _ _ h _ _ _ hP hS (lv_sub hl [2, 3, 4, 5, 6] rfl)
        · rw [if_neg c7] at h
          refine lv_iconst hx hb dX1_fence_25 jx_ki1 ?_
          refine lv_goto (tgt := 30) hx hb dX1_fence_26 rfl ?_
          exact jf_fence_b30_ok hX F _ _ _ _ _ _ h _ _ _ hP hS (lv_sub hl [2, 3, 4, 5, 6] rfl)
      · obtain ⟨v5, S6, ev5, ho⟩ := gv5
        subst ho
        exact jf_outV (ci := 1) (S1 := S6) (k := v5) hx hb hml hown hts hlv hV het hlk (jf_isPower_met hfl ev5) jf_isPower_g_X1 jf_isPower_d (As := [.int x5]) (Nat.le_of_ble_eq_true rfl) (Nat.le_of_ble_eq_true rfl) (hcx _ rfl) hP hS jf_o0 rfl hl.1 rfl rfl (lv_room (Nat.le_of_ble_eq_true rfl)) dX1_fence_17
    · obtain ⟨v3, S4, ev3, ho⟩ := gv3
      subst ho
      exact jf_outV (ci := 1) (S1 := S4) (k := v3) hx hb hml hown hts hlv hV het hlk (jf_orderAt_met hfl ev3) jf_orderAt_g_X1 jf_orderAt_d (As := [.int x2]) (Nat.le_of_ble_eq_true rfl) (Nat.le_of_ble_eq_true rfl) (hcx _ rfl) hP hS jf_o0 rfl hl.1 rfl rfl (lv_room (Nat.le_of_ble_eq_true rfl)) dX1_fence_9
  · obtain ⟨v1, S2, ev1, ho⟩ := gv1
    subst ho
    exact jf_outV (ci := 1) (S1 := S2) (k := v1) hx hb hml hown hts hlv hV het hlk (jf_orderAt_met hfl ev1) jf_orderAt_g_X1 jf_orderAt_d (As := [.int x1]) (Nat.le_of_ble_eq_true rfl) (Nat.le_of_ble_eq_true rfl) (hcx _ rfl) hP hS jf_o0 rfl hl.1 rfl rfl (lv_room (Nat.le_of_ble_eq_true rfl)) dX1_fence_2
theorem jf_fence_met {l : Launch} {D : va_G} {E : jf_E} {A : Nat → Prop} {fo : Nat → Nat → Option Nat} {pl : va_W} {F : Nat} (hfl : l.flags = flags0) {x1 : Int32} {x2 : Int32} {x3 : Int64} {x5 : Int32} {S : jf_S} {out : (Int32 ⊕ Nat) × jf_S} (h : jf_fence F x1 x2 x3 x5 S = some out) : jf_MXi l D E A fo pl yX1_fence cX1_fence 13 (some .int) 8 [.ref (E.1 0), .int x1, .int x2, .long x3, .int x5] S out :=
  jf_MXi_of hfl (own := RX1) ⟨by decide, rfl, Nat.le_of_ble_eq_true rfl⟩ (fun hX => jf_fence_ok hX F x1 x2 x3 x5 S h)
theorem jf_late_d : yX1_late.cls = RX1 ∧ yX1_late.cls ≠ "java/lang/invoke/MethodHandle" ∧ yX1_late.cls ≠ "java/lang/invoke/VarHandle" ∧ (parseMethodDescriptor yX1_late.desc).map (fun d => d.parameters.length) = some 1 := by decide +kernel
theorem jf_late_ok {out : (Int32 ⊕ Nat) × jf_S} (hX : jf_OkX RX1 l p R s m args meth c A D E cX1_late 4 (some .int) 8 out) (F : Nat) (x1 : Int32) (S : jf_S) (h : jf_late F x1 S = some out) : jf_J p l e R s m args below meth c A D E fo pl 4 (jf_QXi below args s A D E fo pl out) 0 [(0, .ref (E.1 0)), (1, .int x1)] [] S := by
  intro H locs ls hP hS hl
  have hX0 := hX
  obtain ⟨⟨hx, hb, hml, hown, hts, hlk, hr, hlv, hV, het⟩, hfl, hcx⟩ := hX0
  unfold jf_late at h
  refine lv_iload_n hx hb dX1_late_0 rfl (lv_at hl 1 rfl) ?_
  refine lv_iconst hx hb dX1_late_1 jx_ki1 ?_
  refine lv_bipush hx hb dX1_late_2 jx_kb20 ?_
  obtain ⟨q1, eq1, h⟩ := jx_bi_some h
  refine jx_callSi hx hb hml hown hts (jf_isIn_met eq1) jf_isIn_g_X1 jf_isIn_d (As := [.int x1, .int (nI 1), .int (nI 20)]) (⟨Nat.le_trans (Nat.le_of_ble_eq_true rfl) hlv.1, Nat.le_trans (Nat.le_of_ble_eq_true rfl) hlv.2⟩) hl.1 rfl rfl (lv_room (Nat.le_of_ble_eq_true rfl)) dX1_late_4 ⟨Nat.zero_le _, Nat.zero_le _⟩ ?_
  refine (jx_xb_some h).elim (fun gv2 => ?_) (fun gv2 => ?_)
  · obtain ⟨v2, S3, ev2, h⟩ := gv2
    refine jf_callVS (out := S3) hx hb hml hown hts hlv hV (jf_must_met hfl ev2) jf_must_g_X1 jf_must_d (As := [.int q1]) (Nat.le_of_ble_eq_true rfl) (Nat.le_of_ble_eq_true rfl) hP hS hl.1 rfl rfl (lv_room (Nat.le_of_ble_eq_true rfl)) dX1_late_7 (fun H locs hP hS => ?_)
    refine lv_aload_n hx hb dX1_late_10 rfl (lv_at hl 0 rfl) ?_
    refine jf_get hx hb hts in_X1 hown hV hP (ci := 1) (k := 3) jf_o0 rfl (by decide) (hts _ q457) rfl rfl dX1_late_11 ?_
    refine lv_iconst hx hb dX1_late_14 jx_ki1 ?_
    refine lv_iconst hx hb dX1_late_15 jx_ki0 ?_
    obtain ⟨q4, eq4, h⟩ := jx_bi_some h
    refine jf_callV hx hb hml hown hts hlv hV (jk_runs_met eq4) jk_runs_g_X1 jk_runs_d (As := [.int (nI 1), .int (nI 0)]) (Nat.le_of_ble_eq_true rfl) (Nat.le_of_ble_eq_true rfl) hP hS (ci := 4) jf_o5 rfl hl.1 rfl rfl (lv_room (Nat.le_of_ble_eq_true rfl)) dX1_late_16 (fun H locs hP hS => ?_)
    refine lv_aload_n hx hb dX1_late_19 rfl (lv_at hl 0 rfl) ?_
    refine jf_get hx hb hts in_X1 hown hV hP (ci := 1) (k := 3) jf_o0 rfl (by decide) (hts _ q457) rfl rfl dX1_late_20 ?_
    refine jf_getN hx hb hts in_X5 hown hV hP (ci := 4) (k := 17) jf_o5 rfl (by decide) (jf_l_X1_376 hV.2.2.1) rfl rfl dX1_late_23 ?_
    refine lv_iconst hx hb dX1_late_26 jx_kim1 ?_
    refine lv_icmp_ne (tgt := 32) hx hb dX1_late_27 rfl (fun c5 => ?_) (fun c5 => ?_)
    · rw [if_neg c5] at h
      refine lv_aload_n hx hb dX1_late_32 rfl (lv_at hl 0 rfl) ?_
      refine jf_get hx hb hts in_X1 hown hV hP (ci := 1) (k := 3) jf_o0 rfl (by decide) (hts _ q457) rfl rfl dX1_late_33 ?_
      refine jf_getN hx hb hts in_X5 hown hV hP (ci := 4) (k := 17) jf_o5 rfl (by decide) (jf_l_X1_376 hV.2.2.1) rfl rfl dX1_late_36 ?_
      refine lv_iconst hx hb dX1_late_39 jx_ki1 ?_
      refine lv_iadd hx hb dX1_late_40 ?_
      obtain ⟨y6, ey6, h⟩ := jx_nx_some h
      refine jx_topi ey6 ?_
      refine lv_istore_n (lv' := [(2, .int y6), (0, .ref (E.1 0)), (1, .int x1)]) hx hb dX1_late_41 rfl hl (Nat.le_of_ble_eq_true rfl) rfl (fun ls hl => ?_)
      refine lv_iload_n hx hb dX1_late_42 rfl (lv_at hl 0 rfl) ?_
      refine lv_iload_n hx hb dX1_late_43 rfl (lv_at hl 2 rfl) ?_
      refine lv_iadd hx hb dX1_late_44 ?_
      refine lv_iconst hx hb dX1_late_45 jx_ki1 ?_
      refine lv_isub hx hb dX1_late_46 ?_
      refine lv_iload_n hx hb dX1_late_47 rfl (lv_at hl 2 rfl) ?_
      obtain ⟨g7, h⟩ := jx_gn_some h
      refine lv_idiv hx hb dX1_late_48 g7 ?_
      refine lv_iload_n hx hb dX1_late_49 rfl (lv_at hl 2 rfl) ?_
      refine lv_imul hx hb dX1_late_50 ?_
      obtain ⟨y8, ey8, h⟩ := jx_nx_some h
      refine jx_topi ey8 ?_
      refine lv_istore_n (lv' := [(3, .int y8), (2, .int y6), (0, .ref (E.1 0)), (1, .int x1)]) hx hb dX1_late_51 rfl hl (Nat.le_of_ble_eq_true rfl) rfl (fun ls hl => ?_)
      refine lv_iload_n hx hb dX1_late_52 rfl (lv_at hl 0 rfl) ?_
      refine lv_aload_n hx hb dX1_late_53 rfl (lv_at hl 2 rfl) ?_
      refine jf_get hx hb hts in_X1 hown hV hP (ci := 1) (k := 3) jf_o0 rfl (by decide) (hts _ q457) rfl rfl dX1_late_54 ?_
      refine jf_getN hx hb hts in_X5 hown hV hP (ci := 4) (k := 13) jf_o5 rfl (by decide) (jf_l_X1_210 hV.2.2.1) rfl rfl dX1_late_57 ?_
      refine va_mmin hx hb (hml.trans hl.1.symm) hown (hts _ q1524) (hts _ jx_mmin_s) (hts _ jx_mmin_i) (hts _ jx_mmin_c) (Nat.le_trans (Nat.le_of_ble_eq_true rfl) hlv.1) (Nat.le_trans (Nat.le_of_ble_eq_true rfl) hlv.2) (Nat.zero_le _) (Nat.zero_le _) dX1_late_60 ?_
      refine lv_iload_n hx hb dX1_late_63 rfl (lv_at hl 1 rfl) ?_
      refine lv_isub hx hb dX1_late_64 ?_
      exact jf_xiret hx hb hr hlk hV hP hS h dX1_late_65
    · rw [if_pos c5] at h
      refine lv_iconst hx hb dX1_late_30 jx_kim1 ?_
      exact jf_xiret hx hb hr hlk hV hP hS h dX1_late_31
  · obtain ⟨v2, S3, ev2, ho⟩ := gv2
    subst ho
    exact jf_outS (S1 := S3) (k := v2) hx hb hml hown hts hlv hV het hlk (jf_must_met hfl ev2) jf_must_g_X1 jf_must_d (As := [.int q1]) (Nat.le_of_ble_eq_true rfl) (Nat.le_of_ble_eq_true rfl) (hcx _ rfl) hP hS hl.1 rfl rfl (lv_room (Nat.le_of_ble_eq_true rfl)) dX1_late_7
theorem jf_late_met {l : Launch} {D : va_G} {E : jf_E} {A : Nat → Prop} {fo : Nat → Nat → Option Nat} {pl : va_W} {F : Nat} (hfl : l.flags = flags0) {x1 : Int32} {S : jf_S} {out : (Int32 ⊕ Nat) × jf_S} (h : jf_late F x1 S = some out) : jf_MXi l D E A fo pl yX1_late cX1_late 4 (some .int) 8 [.ref (E.1 0), .int x1] S out :=
  jf_MXi_of hfl (own := RX1) ⟨by decide, rfl, Nat.le_of_ble_eq_true rfl⟩ (fun hX => jf_late_ok hX F x1 S h)
theorem jr_sign_g_X2 : GoodIn lw_all (wsV RX2 64 RX2 yX2_sign (ws_ yX2_sign cX2_sign 1 (some .int))) := lw_V q952 q954 qs15 q103 q955
theorem jr_sign_d : yX2_sign.cls = RX2 ∧ yX2_sign.cls ≠ "java/lang/invoke/MethodHandle" ∧ yX2_sign.cls ≠ "java/lang/invoke/VarHandle" ∧ (parseMethodDescriptor yX2_sign.desc).map (fun d => d.parameters.length) = some 0 := by decide +kernel
theorem jr_sign_b38_ok {out : Int32 × jf_S} (hX : jf_Ok RX2 p R s m args meth c A D E cX2_sign 1 (some .int) 0) (F : Nat)  (S : jf_S) (h : jr_sign_b38 F  S = some out) : jf_J p l e R s m args below meth c A D E fo pl 1 (jf_Qi below args s A D E fo pl out) 38 [(0, .ref (E.1 1))] [] S := by
  intro H locs ls hP hS hl
  have hX0 := hX
  obtain ⟨hx, hb, hml, hown, hts, hlk, hr, hlv, hV, het⟩ := hX0
  unfold jr_sign_b38 at h
  refine lv_aload_n hx hb dX2_sign_38 rfl (lv_at hl 0 rfl) ?_
  refine jf_get hx hb hts in_X2 hown hV hP (ci := 2) (k := 6) jf_o1 rfl (by decide) (hts _ q248) rfl rfl dX2_sign_39 ?_
  refine lv_aload_n hx hb dX2_sign_42 rfl (lv_at hl 0 rfl) ?_
  refine jf_get hx hb hts in_X2 hown hV hP (ci := 2) (k := 5) jf_o1 rfl (by decide) (hts _ q247) rfl rfl dX2_sign_43 ?_
  refine lv_icmp_ge (tgt := 65) hx hb dX2_sign_46 rfl (fun c1 => ?_) (fun c1 => ?_)
  · rw [if_pos c1] at h
    refine lv_iconst hx hb dX2_sign_65 jx_kim1 ?_
    exact jf_iret hx hb hr hlk hV hP hS h dX2_sign_66
  · rw [if_neg c1] at h
    refine lv_aload_n hx hb dX2_sign_49 rfl (lv_at hl 0 rfl) ?_
    refine jf_get hx hb hts in_X2 hown hV hP (ci := 2) (k := 0) jf_o1 rfl (by decide) (hts _ q240) rfl rfl dX2_sign_50 ?_
    refine lv_aload_n hx hb dX2_sign_53 rfl (lv_at hl 0 rfl) ?_
    refine jf_get hx hb hts in_X2 hown hV hP (ci := 2) (k := 6) jf_o1 rfl (by decide) (hts _ q248) rfl rfl dX2_sign_54 ?_
    obtain ⟨j2, ej2, bj2, h⟩ := jx_ga_some h
    refine jf_bald hx hb hV hP jf_a1_0 ej2 bj2 dX2_sign_57 ?_
    refine lv_sipush hx hb dX2_sign_58 jx_ks255 ?_
    refine lv_iand hx hb dX2_sign_61 ?_
    refine lv_goto (tgt := 66) hx hb dX2_sign_62 rfl ?_
    exact jf_iret hx hb hr hlk hV hP hS h dX2_sign_66
theorem jr_sign_L0_ok {out : Int32 × jf_S} (hX : jf_Ok RX2 p R s m args meth c A D E cX2_sign 1 (some .int) 0) (F : Nat) {r0 : jf_S → Option (Int32 × jf_S)} (hr0 : ∀ a, r0 a = some out → jf_J p l e R s m args below meth c A D E fo pl 1 (jf_Qi below args s A D E fo pl out) 0 [(0, .ref (E.1 1))] [] a)  (S : jf_S) (h : jr_sign_L0 F r0  S = some out) : jf_J p l e R s m args below meth c A D E fo pl 1 (jf_Qi below args s A D E fo pl out) 0 [(0, .ref (E.1 1))] [] S := by
  intro H locs ls hP hS hl
  have hX0 := hX
  obtain ⟨hx, hb, hml, hown, hts, hlk, hr, hlv, hV, het⟩ := hX0
  unfold jr_sign_L0 at h
  refine lv_aload_n hx hb dX2_sign_0 rfl (lv_at hl 0 rfl) ?_
  refine jf_get hx hb hts in_X2 hown hV hP (ci := 2) (k := 6) jf_o1 rfl (by decide) (hts _ q248) rfl rfl dX2_sign_1 ?_
  refine lv_aload_n hx hb dX2_sign_4 rfl (lv_at hl 0 rfl) ?_
  refine jf_get hx hb hts in_X2 hown hV hP (ci := 2) (k := 5) jf_o1 rfl (by decide) (hts _ q247) rfl rfl dX2_sign_5 ?_
  refine lv_icmp_ge (tgt := 38) hx hb dX2_sign_8 rfl (fun c1 => ?_) (fun c1 => ?_)
  · rw [if_pos c1] at h
    exact jr_sign_b38_ok hX F _ h _ _ _ hP hS hl
  · rw [if_neg c1] at h
    refine lv_aload_n hx hb dX2_sign_11 rfl (lv_at hl 0 rfl) ?_
    refine jf_get hx hb hts in_X2 hown hV hP (ci := 2) (k := 0) jf_o1 rfl (by decide) (hts _ q240) rfl rfl dX2_sign_12 ?_
    refine lv_aload_n hx hb dX2_sign_15 rfl (lv_at hl 0 rfl) ?_
    refine jf_get hx hb hts in_X2 hown hV hP (ci := 2) (k := 6) jf_o1 rfl (by decide) (hts _ q248) rfl rfl dX2_sign_16 ?_
    obtain ⟨j2, ej2, bj2, h⟩ := jx_ga_some h
    refine jf_bald hx hb hV hP jf_a1_0 ej2 bj2 dX2_sign_19 ?_
    refine lv_bipush hx hb dX2_sign_20 jx_kb32 ?_
    refine lv_icmp_ne (tgt := 38) hx hb dX2_sign_22 rfl (fun c3 => ?_) (fun c3 => ?_)
    · rw [if_neg c3] at h
      exact jr_sign_b38_ok hX F _ h _ _ _ hP hS hl
    · rw [if_pos c3] at h
      refine lv_aload_n hx hb dX2_sign_25 rfl (lv_at hl 0 rfl) ?_
      refine lv_dup hx hb dX2_sign_26 rfl ?_
      refine jf_get hx hb hts in_X2 hown hV hP (ci := 2) (k := 6) jf_o1 rfl (by decide) (hts _ q248) rfl rfl dX2_sign_27 ?_
      refine lv_iconst hx hb dX2_sign_30 jx_ki1 ?_
      refine lv_iadd hx hb dX2_sign_31 ?_
      obtain ⟨S4, eS4, h⟩ := jx_nx_some h
      refine jf_put (S1 := S4) hx hb hts in_X2 tyX2_ok nmX2 hown hV hP hS (ci := 2) (k := 6) (by rw [eS4]; rfl) jf_o1 (by rw [eS4]; exact jf_s1_6 _) rfl (by decide) (hts _ q248) rfl rfl (tyX2_ok 6 (by decide)) ⟨rfl, rfl⟩ (Nat.le_of_ble_eq_true rfl) dX2_sign_32 (fun H locs hP hS => ?_)
      refine lv_goto (tgt := 0) hx hb dX2_sign_35 rfl ?_
      exact hr0 _ h _ _ _ hP hS hl
theorem jr_sign_h0_ok {out : Int32 × jf_S} (hX : jf_Ok RX2 p R s m args meth c A D E cX2_sign 1 (some .int) 0) (F : Nat) (n : Nat) (a : jf_S) (h : jr_sign_h0 F n a = some out) : jf_J p l e R s m args below meth c A D E fo pl 1 (jf_Qi below args s A D E fo pl out) 0 [(0, .ref (E.1 1))] [] a :=
  jx_loop_ind (J := fun a => jf_J p l e R s m args below meth c A D E fo pl 1 (jf_Qi below args s A D E fo pl out) 0 [(0, .ref (E.1 1))] [] a) (fun r hr a h => jr_sign_L0_ok hX F hr a h) n a h
theorem jr_sign_ok {out : Int32 × jf_S} (hX : jf_Ok RX2 p R s m args meth c A D E cX2_sign 1 (some .int) 0) (F : Nat)  (S : jf_S) (h : jr_sign F  S = some out) : jf_J p l e R s m args below meth c A D E fo pl 1 (jf_Qi below args s A D E fo pl out) 0 [(0, .ref (E.1 1))] [] S := by
  intro H locs ls hP hS hl
  have hX0 := hX
  obtain ⟨hx, hb, hml, hown, hts, hlk, hr, hlv, hV, het⟩ := hX0
  unfold jr_sign at h
  exact jr_sign_h0_ok hX F F _ h _ _ _ hP hS hl
theorem jr_sign_met {l : Launch} {D : va_G} {E : jf_E} {A : Nat → Prop} {fo : Nat → Nat → Option Nat} {pl : va_W} {F : Nat}  {S : jf_S} {out : Int32 × jf_S} (h : jr_sign F  S = some out) : jf_Mi l D E A fo pl yX2_sign cX2_sign 1 (some .int) 0 [.ref (E.1 1)] S out :=
  jf_Mi_of (own := RX2) ⟨by decide, rfl, Nat.le_of_ble_eq_true rfl⟩ (fun hX => jr_sign_ok hX F  S h)
theorem jr_takes_g_X2 : GoodIn lw_all (wsV RX2 75 RX2 yX2_takes (ws_ yX2_takes cX2_takes 6 (some .boolean))) := lw_V q961 q963 qs17 q103 q964
theorem jr_takes_d : yX2_takes.cls = RX2 ∧ yX2_takes.cls ≠ "java/lang/invoke/MethodHandle" ∧ yX2_takes.cls ≠ "java/lang/invoke/VarHandle" ∧ (parseMethodDescriptor yX2_takes.desc).map (fun d => d.parameters.length) = some 1 := by decide +kernel
theorem jr_takes_b109_ok {out : Int32 × jf_S} (hX : jf_Ok RX2 p R s m args meth c A D E cX2_takes 6 (some .boolean) 5) (F : Nat) {r69 : Nat × Int32 × Int32 × Int32 × jf_S → Option (Int32 × jf_S)} (hr69 : ∀ a, r69 a = some out → jf_J p l e R s m args below meth c A D E fo pl 6 (jf_Qi below args s A D E fo pl out) 69 [(0, .ref (E.1 1)), (1, .ref (E.2.2.2.1 a.1)), (3, .int a.2.1), (4, .int a.2.2.1), (5, .int a.2.2.2.1)] [] a.2.2.2.2) (x1 : Nat) (x3 : Int32) (x5 : Int32) (k0 : Int32) (S : jf_S) (h : jr_takes_b109 F r69 x1 x3 x5 k0 S = some out) : jf_J p l e R s m args below meth c A D E fo pl 6 (jf_Qi below args s A D E fo pl out) 109 [(0, .ref (E.1 1)), (1, .ref (E.2.2.2.1 x1)), (3, .int x3), (5, .int x5)] [.int k0] S := by
  intro H locs ls hP hS hl
  have hX0 := hX
  obtain ⟨hx, hb, hml, hown, hts, hlk, hr, hlv, hV, het⟩ := hX0
  unfold jr_takes_b109 at h
  refine lv_istore (lv' := [(4, .int k0), (0, .ref (E.1 1)), (1, .ref (E.2.2.2.1 x1)), (3, .int x3), (5, .int x5)]) hx hb dX2_takes_109 hl (Nat.le_of_ble_eq_true rfl) rfl (fun ls hl => ?_)
  obtain ⟨y1, ey1, h⟩ := jx_nx_some h
  refine lv_iinc (v := y1) (lv' := [(5, .int y1), (4, .int k0), (0, .ref (E.1 1)), (1, .ref (E.2.2.2.1 x1)), (3, .int x3)]) hx hb dX2_takes_111 hl (k := 4) rfl (jx_inc jx_ki1 ey1) (Nat.le_of_ble_eq_true rfl) rfl (fun ls hl => ?_)
  refine lv_goto (tgt := 69) hx hb dX2_takes_114 rfl ?_
  exact hr69 _ h _ _ _ hP hS (lv_sub hl [2, 3, 4, 1, 0] rfl)
theorem jr_takes_b117_ok {out : Int32 × jf_S} (hX : jf_Ok RX2 p R s m args meth c A D E cX2_takes 6 (some .boolean) 5) (F : Nat) (x3 : Int32) (x4 : Int32) (S : jf_S) (h : jr_takes_b117 F x3 x4 S = some out) : jf_J p l e R s m args below meth c A D E fo pl 6 (jf_Qi below args s A D E fo pl out) 117 [(0, .ref (E.1 1)), (3, .int x3), (4, .int x4)] [] S := by
  intro H locs ls hP hS hl
  have hX0 := hX
  obtain ⟨hx, hb, hml, hown, hts, hlk, hr, hlv, hV, het⟩ := hX0
  unfold jr_takes_b117 at h
  refine lv_iload hx hb dX2_takes_117 (lv_at hl 2 rfl) ?_
  refine lv_if_eq (tgt := 127) hx hb dX2_takes_119 rfl (fun c1 => ?_) (fun c1 => ?_)
  · rw [if_pos c1] at h
    refine lv_iload hx hb dX2_takes_127 (lv_at hl 2 rfl) ?_
    obtain ⟨z2, h⟩ := jx_gz_some h
    exact jf_zret hx hb hr hlk hV hP hS z2 h dX2_takes_129
  · rw [if_neg c1] at h
    refine lv_aload_n hx hb dX2_takes_122 rfl (lv_at hl 0 rfl) ?_
    refine lv_iload_n hx hb dX2_takes_123 rfl (lv_at hl 1 rfl) ?_
    obtain ⟨S3, eS3, h⟩ := jx_nx_some h
    refine jf_put (S1 := S3) hx hb hts in_X2 tyX2_ok nmX2 hown hV hP hS (ci := 2) (k := 6) (by rw [eS3]; rfl) jf_o1 (by rw [eS3]; exact jf_s1_6 _) rfl (by decide) (hts _ q248) rfl rfl (tyX2_ok 6 (by decide)) ⟨rfl, rfl⟩ (Nat.le_of_ble_eq_true rfl) dX2_takes_124 (fun H locs hP hS => ?_)
    refine lv_iload hx hb dX2_takes_127 (lv_at hl 2 rfl) ?_
    obtain ⟨z4, h⟩ := jx_gz_some h
    exact jf_zret hx hb hr hlk hV hP hS z4 h dX2_takes_129
theorem jr_takes_L69_ok {out : Int32 × jf_S} (hX : jf_Ok RX2 p R s m args meth c A D E cX2_takes 6 (some .boolean) 5) (F : Nat) {r69 : Nat × Int32 × Int32 × Int32 × jf_S → Option (Int32 × jf_S)} (hr69 : ∀ a, r69 a = some out → jf_J p l e R s m args below meth c A D E fo pl 6 (jf_Qi below args s A D E fo pl out) 69 [(0, .ref (E.1 1)), (1, .ref (E.2.2.2.1 a.1)), (3, .int a.2.1), (4, .int a.2.2.1), (5, .int a.2.2.2.1)] [] a.2.2.2.2) (x1 : Nat) (x3 : Int32) (x4 : Int32) (x5 : Int32) (S : jf_S) (h : jr_takes_L69 F r69 x1 x3 x4 x5 S = some out) : jf_J p l e R s m args below meth c A D E fo pl 6 (jf_Qi below args s A D E fo pl out) 69 [(0, .ref (E.1 1)), (1, .ref (E.2.2.2.1 x1)), (3, .int x3), (4, .int x4), (5, .int x5)] [] S := by
  intro H locs ls hP hS hl
  have hX0 := hX
  obtain ⟨hx, hb, hml, hown, hts, hlk, hr, hlv, hV, het⟩ := hX0
  unfold jr_takes_L69 at h
  refine lv_iload hx hb dX2_takes_69 (lv_at hl 4 rfl) ?_
  refine lv_aload_n hx hb dX2_takes_71 rfl (lv_at hl 1 rfl) ?_
  obtain ⟨zs1, h⟩ := jx_gs_some h
  refine jf_slen hx hb hml hown hts hlv hV hS hl.1 (lv_room (Nat.le_of_ble_eq_true rfl)) zs1 (Nat.le_of_ble_eq_true rfl) dX2_takes_72 ?_
  refine lv_icmp_ge (tgt := 117) hx hb dX2_takes_75 rfl (fun c2 => ?_) (fun c2 => ?_)
  · rw [if_pos c2] at h
    exact jr_takes_b117_ok hX F _ _ _ h _ _ _ hP hS (lv_sub hl [0, 2, 3] rfl)
  · rw [if_neg c2] at h
    refine lv_iload hx hb dX2_takes_78 (lv_at hl 3 rfl) ?_
    refine lv_if_eq (tgt := 117) hx hb dX2_takes_80 rfl (fun c3 => ?_) (fun c3 => ?_)
    · rw [if_pos c3] at h
      exact jr_takes_b117_ok hX F _ _ _ h _ _ _ hP hS (lv_sub hl [0, 2, 3] rfl)
    · rw [if_neg c3] at h
      refine lv_aload_n hx hb dX2_takes_83 rfl (lv_at hl 0 rfl) ?_
      refine jf_get hx hb hts in_X2 hown hV hP (ci := 2) (k := 0) jf_o1 rfl (by decide) (hts _ q240) rfl rfl dX2_takes_84 ?_
      refine lv_aload_n hx hb dX2_takes_87 rfl (lv_at hl 0 rfl) ?_
      refine jf_get hx hb hts in_X2 hown hV hP (ci := 2) (k := 6) jf_o1 rfl (by decide) (hts _ q248) rfl rfl dX2_takes_88 ?_
      refine lv_iload hx hb dX2_takes_91 (lv_at hl 4 rfl) ?_
      refine lv_iadd hx hb dX2_takes_93 ?_
      obtain ⟨j4, ej4, bj4, h⟩ := jx_ga_some h
      refine jf_bald hx hb hV hP jf_a1_0 ej4 bj4 dX2_takes_94 ?_
      refine lv_aload_n hx hb dX2_takes_95 rfl (lv_at hl 1 rfl) ?_
      refine lv_iload hx hb dX2_takes_96 (lv_at hl 4 rfl) ?_
      obtain ⟨zs5, h⟩ := jx_gs_some h
      obtain ⟨j6, ej6, bj6, h⟩ := jx_ga_some h
      refine jf_schar hx hb hml hown hts hlv hV hS hl.1 (lv_room (Nat.le_of_ble_eq_true rfl)) zs5 (Nat.le_of_ble_eq_true rfl) ej6 bj6 dX2_takes_98 ?_
      refine lv_icmp_ne (tgt := 108) hx hb dX2_takes_101 rfl (fun c7 => ?_) (fun c7 => ?_)
      · rw [if_neg c7] at h
        refine lv_iconst hx hb dX2_takes_108 jx_ki0 ?_
        exact jr_takes_b109_ok hX F hr69 _ _ _ _ _ h _ _ _ hP hS (lv_sub hl [0, 1, 2, 4] rfl)
      · rw [if_pos c7] at h
        refine lv_iconst hx hb dX2_takes_104 jx_ki1 ?_
        refine lv_goto (tgt := 109) hx hb dX2_takes_105 rfl ?_
        exact jr_takes_b109_ok hX F hr69 _ _ _ _ _ h _ _ _ hP hS (lv_sub hl [0, 1, 2, 4] rfl)
theorem jr_takes_h69_ok {out : Int32 × jf_S} (hX : jf_Ok RX2 p R s m args meth c A D E cX2_takes 6 (some .boolean) 5) (F : Nat) (n : Nat) (a : Nat × Int32 × Int32 × Int32 × jf_S) (h : jr_takes_h69 F n a = some out) : jf_J p l e R s m args below meth c A D E fo pl 6 (jf_Qi below args s A D E fo pl out) 69 [(0, .ref (E.1 1)), (1, .ref (E.2.2.2.1 a.1)), (3, .int a.2.1), (4, .int a.2.2.1), (5, .int a.2.2.2.1)] [] a.2.2.2.2 :=
  jx_loop_ind (J := fun a => jf_J p l e R s m args below meth c A D E fo pl 6 (jf_Qi below args s A D E fo pl out) 69 [(0, .ref (E.1 1)), (1, .ref (E.2.2.2.1 a.1)), (3, .int a.2.1), (4, .int a.2.2.1), (5, .int a.2.2.2.1)] [] a.2.2.2.2) (fun r hr a h => jr_takes_L69_ok hX F hr a.1 a.2.1 a.2.2.1 a.2.2.2.1 a.2.2.2.2 h) n a h
theorem jr_takes_b64_ok {out : Int32 × jf_S} (hX : jf_Ok RX2 p R s m args meth c A D E cX2_takes 6 (some .boolean) 5) (F : Nat) (x1 : Nat) (x3 : Int32) (k0 : Int32) (S : jf_S) (h : jr_takes_b64 F x1 x3 k0 S = some out) : jf_J p l e R s m args below meth c A D E fo pl 6 (jf_Qi below args s A D E fo pl out) 64 [(0, .ref (E.1 1)), (1, .ref (E.2.2.2.1 x1)), (3, .int x3)] [.int k0] S := by
  intro H locs ls hP hS hl
  have hX0 := hX
  obtain ⟨hx, hb, hml, hown, hts, hlk, hr, hlv, hV, het⟩ := hX0
  unfold jr_takes_b64 at h
  refine lv_istore (lv' := [(4, .int k0), (0, .ref (E.1 1)), (1, .ref (E.2.2.2.1 x1)), (3, .int x3)]) hx hb dX2_takes_64 hl (Nat.le_of_ble_eq_true rfl) rfl (fun ls hl => ?_)
  refine lv_iconst hx hb dX2_takes_66 jx_ki0 ?_
  obtain ⟨y1, ey1, h⟩ := jx_nx_some h
  refine jx_topi ey1 ?_
  refine lv_istore (lv' := [(5, .int y1), (4, .int k0), (0, .ref (E.1 1)), (1, .ref (E.2.2.2.1 x1)), (3, .int x3)]) hx hb dX2_takes_67 hl (Nat.le_of_ble_eq_true rfl) rfl (fun ls hl => ?_)
  exact jr_takes_h69_ok hX F F _ h _ _ _ hP hS (lv_sub hl [2, 3, 4, 1, 0] rfl)
theorem jr_takes_b46_ok {out : Int32 × jf_S} (hX : jf_Ok RX2 p R s m args meth c A D E cX2_takes 6 (some .boolean) 5) (F : Nat) (x1 : Nat) (x3 : Int32) (S : jf_S) (h : jr_takes_b46 F x1 x3 S = some out) : jf_J p l e R s m args below meth c A D E fo pl 6 (jf_Qi below args s A D E fo pl out) 46 [(0, .ref (E.1 1)), (1, .ref (E.2.2.2.1 x1)), (3, .int x3)] [] S := by
  intro H locs ls hP hS hl
  have hX0 := hX
  obtain ⟨hx, hb, hml, hown, hts, hlk, hr, hlv, hV, het⟩ := hX0
  unfold jr_takes_b46 at h
  refine lv_iload_n hx hb dX2_takes_46 rfl (lv_at hl 2 rfl) ?_
  refine lv_aload_n hx hb dX2_takes_47 rfl (lv_at hl 0 rfl) ?_
  refine jf_get hx hb hts in_X2 hown hV hP (ci := 2) (k := 6) jf_o1 rfl (by decide) (hts _ q248) rfl rfl dX2_takes_48 ?_
  refine lv_isub hx hb dX2_takes_51 ?_
  refine lv_aload_n hx hb dX2_takes_52 rfl (lv_at hl 1 rfl) ?_
  obtain ⟨zs1, h⟩ := jx_gs_some h
  refine jf_slen hx hb hml hown hts hlv hV hS hl.1 (lv_room (Nat.le_of_ble_eq_true rfl)) zs1 (Nat.le_of_ble_eq_true rfl) dX2_takes_53 ?_
  refine lv_icmp_ne (tgt := 63) hx hb dX2_takes_56 rfl (fun c2 => ?_) (fun c2 => ?_)
  · rw [if_neg c2] at h
    refine lv_iconst hx hb dX2_takes_63 jx_ki0 ?_
    exact jr_takes_b64_ok hX F _ _ _ _ h _ _ _ hP hS hl
  · rw [if_pos c2] at h
    refine lv_iconst hx hb dX2_takes_59 jx_ki1 ?_
    refine lv_goto (tgt := 64) hx hb dX2_takes_60 rfl ?_
    exact jr_takes_b64_ok hX F _ _ _ _ h _ _ _ hP hS hl
theorem jr_takes_L10_ok {out : Int32 × jf_S} (hX : jf_Ok RX2 p R s m args meth c A D E cX2_takes 6 (some .boolean) 5) (F : Nat) {r10 : Nat × Int32 × jf_S → Option (Int32 × jf_S)} (hr10 : ∀ a, r10 a = some out → jf_J p l e R s m args below meth c A D E fo pl 6 (jf_Qi below args s A D E fo pl out) 10 [(0, .ref (E.1 1)), (1, .ref (E.2.2.2.1 a.1)), (3, .int a.2.1)] [] a.2.2) (x1 : Nat) (x3 : Int32) (S : jf_S) (h : jr_takes_L10 F r10 x1 x3 S = some out) : jf_J p l e R s m args below meth c A D E fo pl 6 (jf_Qi below args s A D E fo pl out) 10 [(0, .ref (E.1 1)), (1, .ref (E.2.2.2.1 x1)), (3, .int x3)] [] S := by
  intro H locs ls hP hS hl
  have hX0 := hX
  obtain ⟨hx, hb, hml, hown, hts, hlk, hr, hlv, hV, het⟩ := hX0
  unfold jr_takes_L10 at h
  refine lv_iload_n hx hb dX2_takes_10 rfl (lv_at hl 2 rfl) ?_
  refine lv_aload_n hx hb dX2_takes_11 rfl (lv_at hl 0 rfl) ?_
  refine jf_get hx hb hts in_X2 hown hV hP (ci := 2) (k := 5) jf_o1 rfl (by decide) (hts _ q247) rfl rfl dX2_takes_12 ?_
  refine lv_icmp_ge (tgt := 46) hx hb dX2_takes_15 rfl (fun c1 => ?_) (fun c1 => ?_)
  · rw [if_pos c1] at h
    exact jr_takes_b46_ok hX F _ _ _ h _ _ _ hP hS hl
  · rw [if_neg c1] at h
    refine lv_aload_n hx hb dX2_takes_18 rfl (lv_at hl 0 rfl) ?_
    refine jf_get hx hb hts in_X2 hown hV hP (ci := 2) (k := 0) jf_o1 rfl (by decide) (hts _ q240) rfl rfl dX2_takes_19 ?_
    refine lv_iload_n hx hb dX2_takes_22 rfl (lv_at hl 2 rfl) ?_
    obtain ⟨j2, ej2, bj2, h⟩ := jx_ga_some h
    refine jf_bald hx hb hV hP jf_a1_0 ej2 bj2 dX2_takes_23 ?_
    refine lv_bipush hx hb dX2_takes_24 jx_kb97 ?_
    refine lv_icmp_lt (tgt := 46) hx hb dX2_takes_26 rfl (fun c3 => ?_) (fun c3 => ?_)
    · rw [if_pos c3] at h
      exact jr_takes_b46_ok hX F _ _ _ h _ _ _ hP hS hl
    · rw [if_neg c3] at h
      refine lv_aload_n hx hb dX2_takes_29 rfl (lv_at hl 0 rfl) ?_
      refine jf_get hx hb hts in_X2 hown hV hP (ci := 2) (k := 0) jf_o1 rfl (by decide) (hts _ q240) rfl rfl dX2_takes_30 ?_
      refine lv_iload_n hx hb dX2_takes_33 rfl (lv_at hl 2 rfl) ?_
      obtain ⟨j4, ej4, bj4, h⟩ := jx_ga_some h
      refine jf_bald hx hb hV hP jf_a1_0 ej4 bj4 dX2_takes_34 ?_
      refine lv_bipush hx hb dX2_takes_35 jx_kb122 ?_
      refine lv_icmp_gt (tgt := 46) hx hb dX2_takes_37 rfl (fun c5 => ?_) (fun c5 => ?_)
      · rw [if_pos c5] at h
        exact jr_takes_b46_ok hX F _ _ _ h _ _ _ hP hS hl
      · rw [if_neg c5] at h
        obtain ⟨y6, ey6, h⟩ := jx_nx_some h
        refine lv_iinc (v := y6) (lv' := [(3, .int y6), (0, .ref (E.1 1)), (1, .ref (E.2.2.2.1 x1))]) hx hb dX2_takes_40 hl (k := 2) rfl (jx_inc jx_ki1 ey6) (Nat.le_of_ble_eq_true rfl) rfl (fun ls hl => ?_)
        refine lv_goto (tgt := 10) hx hb dX2_takes_43 rfl ?_
        exact hr10 _ h _ _ _ hP hS (lv_sub hl [1, 2, 0] rfl)
theorem jr_takes_h10_ok {out : Int32 × jf_S} (hX : jf_Ok RX2 p R s m args meth c A D E cX2_takes 6 (some .boolean) 5) (F : Nat) (n : Nat) (a : Nat × Int32 × jf_S) (h : jr_takes_h10 F n a = some out) : jf_J p l e R s m args below meth c A D E fo pl 6 (jf_Qi below args s A D E fo pl out) 10 [(0, .ref (E.1 1)), (1, .ref (E.2.2.2.1 a.1)), (3, .int a.2.1)] [] a.2.2 :=
  jx_loop_ind (J := fun a => jf_J p l e R s m args below meth c A D E fo pl 6 (jf_Qi below args s A D E fo pl out) 10 [(0, .ref (E.1 1)), (1, .ref (E.2.2.2.1 a.1)), (3, .int a.2.1)] [] a.2.2) (fun r hr a h => jr_takes_L10_ok hX F hr a.1 a.2.1 a.2.2 h) n a h
theorem jr_takes_ok {out : Int32 × jf_S} (hX : jf_Ok RX2 p R s m args meth c A D E cX2_takes 6 (some .boolean) 5) (F : Nat) (x1 : Nat) (S : jf_S) (h : jr_takes F x1 S = some out) : jf_J p l e R s m args below meth c A D E fo pl 6 (jf_Qi below args s A D E fo pl out) 0 [(0, .ref (E.1 1)), (1, .ref (E.2.2.2.1 x1))] [] S := by
  intro H locs ls hP hS hl
  have hX0 := hX
  obtain ⟨hx, hb, hml, hown, hts, hlk, hr, hlv, hV, het⟩ := hX0
  unfold jr_takes at h
  refine lv_aload_n hx hb dX2_takes_0 rfl (lv_at hl 0 rfl) ?_
  obtain ⟨q1, eq1, h⟩ := jx_bi_some h
  refine jf_callI hx hb hml hown hts hlv hV (jr_sign_met eq1) jr_sign_g_X2 jr_sign_d (As := []) (Nat.le_of_ble_eq_true rfl) (Nat.le_of_ble_eq_true rfl) hP hS (ci := 2) jf_o1 rfl hl.1 rfl rfl (lv_room (Nat.le_of_ble_eq_true rfl)) dX2_takes_1 (fun H locs hP hS => ?_)
  obtain ⟨y2, ey2, h⟩ := jx_nx_some h
  refine jx_topi ey2 ?_
  refine lv_istore_n (lv' := [(2, .int y2), (0, .ref (E.1 1)), (1, .ref (E.2.2.2.1 x1))]) hx hb dX2_takes_4 rfl hl (Nat.le_of_ble_eq_true rfl) rfl (fun ls hl => ?_)
  refine lv_aload_n hx hb dX2_takes_5 rfl (lv_at hl 1 rfl) ?_
  refine jf_get hx hb hts in_X2 hown hV hP (ci := 2) (k := 6) jf_o1 rfl (by decide) (hts _ q248) rfl rfl dX2_takes_6 ?_
  obtain ⟨y3, ey3, h⟩ := jx_nx_some h
  refine jx_topi ey3 ?_
  refine lv_istore_n (lv' := [(3, .int y3), (2, .int y2), (0, .ref (E.1 1)), (1, .ref (E.2.2.2.1 x1))]) hx hb dX2_takes_9 rfl hl (Nat.le_of_ble_eq_true rfl) rfl (fun ls hl => ?_)
  exact jr_takes_h10_ok hX F F _ h _ _ _ hP hS (lv_sub hl [2, 3, 0] rfl)
theorem jr_takes_met {l : Launch} {D : va_G} {E : jf_E} {A : Nat → Prop} {fo : Nat → Nat → Option Nat} {pl : va_W} {F : Nat} {x1 : Nat} {S : jf_S} {out : Int32 × jf_S} (h : jr_takes F x1 S = some out) : jf_Mi l D E A fo pl yX2_takes cX2_takes 6 (some .boolean) 5 [.ref (E.1 1), .ref (E.2.2.2.1 x1)] S out :=
  jf_Mi_of (own := RX2) ⟨by decide, rfl, Nat.le_of_ble_eq_true rfl⟩ (fun hX => jr_takes_ok hX F x1 S h)
theorem jr_fail_g_X2 : GoodIn lw_all (wsV RX2 79 RX2 yX2_fail (ws_ yX2_fail cX2_fail 2 none)) := lw_V q956 q958 qs16 q103 q959
theorem jr_fail_d : yX2_fail.cls = RX2 ∧ yX2_fail.cls ≠ "java/lang/invoke/MethodHandle" ∧ yX2_fail.cls ≠ "java/lang/invoke/VarHandle" ∧ (parseMethodDescriptor yX2_fail.desc).map (fun d => d.parameters.length) = some 1 := by decide +kernel
theorem jr_fail_ok {out : (Unit ⊕ Nat) × jf_S} (hX : jf_OkX RX2 l p R s m args meth c A D E cX2_fail 2 none 0 out) (F : Nat) (x1 : Int32) (S : jf_S) (h : jr_fail F x1 S = some out) : jf_J p l e R s m args below meth c A D E fo pl 2 (jf_QXv below args s A D E fo pl out) 0 [(0, .ref (E.1 1)), (1, .int x1)] [] S := by
  intro H locs ls hP hS hl
  have hX0 := hX
  obtain ⟨⟨hx, hb, hml, hown, hts, hlk, hr, hlv, hV, het⟩, hfl, hcx⟩ := hX0
  unfold jr_fail at h
  refine lv_aload_n hx hb dX2_fail_0 rfl (lv_at hl 0 rfl) ?_
  refine jf_get hx hb hts in_X2 hown hV hP (ci := 2) (k := 3) jf_o1 rfl (by decide) (hts _ q245) rfl rfl dX2_fail_1 ?_
  refine lv_iload_n hx hb dX2_fail_4 rfl (lv_at hl 1 rfl) ?_
  obtain ⟨S1, eS1, h⟩ := jx_nx_some h
  refine jf_putN (S1 := S1) hx hb hts in_X3 tyX3_ok nmX3 hown hV hP hS (ci := 16) (k := 6) (by rw [eS1]; rfl) jf_o2 (by rw [eS1]; exact jf_s2_6 _) rfl (by decide) (jf_l_X2_54 hV.2.2.1) rfl rfl (tyX3_ok 6 (by decide)) ⟨rfl, rfl⟩ (Nat.le_of_ble_eq_true rfl) dX2_fail_5 (fun H locs hP hS => ?_)
  refine lv_aload_n hx hb dX2_fail_8 rfl (lv_at hl 0 rfl) ?_
  refine jf_get hx hb hts in_X2 hown hV hP (ci := 2) (k := 3) jf_o1 rfl (by decide) (hts _ q245) rfl rfl dX2_fail_9 ?_
  cases h
  exact jf_throwOld hx hb het hlk hV hP hS dX2_fail_12
theorem jr_fail_met {l : Launch} {D : va_G} {E : jf_E} {A : Nat → Prop} {fo : Nat → Nat → Option Nat} {pl : va_W} {F : Nat} (hfl : l.flags = flags0) {x1 : Int32} {S : jf_S} {out : (Unit ⊕ Nat) × jf_S} (h : jr_fail F x1 S = some out) : jf_MXv l D E A fo pl yX2_fail cX2_fail 2 none 0 [.ref (E.1 1), .int x1] S out :=
  jf_MXv_of hfl (own := RX2) ⟨by decide, rfl, Nat.le_of_ble_eq_true rfl⟩ (fun hX => jr_fail_ok hX F x1 S h)
theorem jr_number_g_X2 : GoodIn lw_all (wsV RX2 89 RX2 yX2_number (ws_ yX2_number cX2_number 5 (some .int))) := lw_V q1013 q1015 qs18 q103 q1016
theorem jr_number_d : yX2_number.cls = RX2 ∧ yX2_number.cls ≠ "java/lang/invoke/MethodHandle" ∧ yX2_number.cls ≠ "java/lang/invoke/VarHandle" ∧ (parseMethodDescriptor yX2_number.desc).map (fun d => d.parameters.length) = some 1 := by decide +kernel
theorem jr_number_b67_ok {out : (Int32 ⊕ Nat) × jf_S} (hX : jf_OkX RX2 l p R s m args meth c A D E cX2_number 5 (some .int) 1 out) (F : Nat) {r13 : Int32 × Int32 × Int32 × jf_S → Option ((Int32 ⊕ Nat) × jf_S)} (hr13 : ∀ a, r13 a = some out → jf_J p l e R s m args below meth c A D E fo pl 5 (jf_QXi below args s A D E fo pl out) 13 [(0, .ref (E.1 1)), (1, .int a.1), (3, .int a.2.1), (4, .int a.2.2.1)] [] a.2.2.2) (x1 : Int32) (x3 : Int32) (x4 : Int32) (S : jf_S) (h : jr_number_b67 F r13 x1 x3 x4 S = some out) : jf_J p l e R s m args below meth c A D E fo pl 5 (jf_QXi below args s A D E fo pl out) 67 [(0, .ref (E.1 1)), (1, .int x1), (3, .int x3), (4, .int x4)] [] S := by
  intro H locs ls hP hS hl
  have hX0 := hX
  obtain ⟨⟨hx, hb, hml, hown, hts, hlk, hr, hlv, hV, het⟩, hfl, hcx⟩ := hX0
  unfold jr_number_b67 at h
  refine lv_bipush hx hb dX2_number_67 jx_kb10 ?_
  refine lv_iload hx hb dX2_number_69 (lv_at hl 3 rfl) ?_
  refine lv_imul hx hb dX2_number_71 ?_
  refine lv_aload_n hx hb dX2_number_72 rfl (lv_at hl 0 rfl) ?_
  refine jf_get hx hb hts in_X2 hown hV hP (ci := 2) (k := 0) jf_o1 rfl (by decide) (hts _ q240) rfl rfl dX2_number_73 ?_
  refine lv_aload_n hx hb dX2_number_76 rfl (lv_at hl 0 rfl) ?_
  refine jf_get hx hb hts in_X2 hown hV hP (ci := 2) (k := 6) jf_o1 rfl (by decide) (hts _ q248) rfl rfl dX2_number_77 ?_
  obtain ⟨j1, ej1, bj1, h⟩ := jx_ga_some h
  refine jf_bald hx hb hV hP jf_a1_0 ej1 bj1 dX2_number_80 ?_
  refine lv_iadd hx hb dX2_number_81 ?_
  refine lv_bipush hx hb dX2_number_82 jx_kb48 ?_
  refine lv_isub hx hb dX2_number_84 ?_
  obtain ⟨y2, ey2, h⟩ := jx_nx_some h
  refine jx_topi ey2 ?_
  refine lv_istore (lv' := [(4, .int y2), (0, .ref (E.1 1)), (1, .int x1), (3, .int x3)]) hx hb dX2_number_85 hl (Nat.le_of_ble_eq_true rfl) rfl (fun ls hl => ?_)
  refine lv_aload_n hx hb dX2_number_87 rfl (lv_at hl 1 rfl) ?_
  refine lv_dup hx hb dX2_number_88 rfl ?_
  refine jf_get hx hb hts in_X2 hown hV hP (ci := 2) (k := 6) jf_o1 rfl (by decide) (hts _ q248) rfl rfl dX2_number_89 ?_
  refine lv_iconst hx hb dX2_number_92 jx_ki1 ?_
  refine lv_iadd hx hb dX2_number_93 ?_
  obtain ⟨S3, eS3, h⟩ := jx_nx_some h
  refine jf_put (S1 := S3) hx hb hts in_X2 tyX2_ok nmX2 hown hV hP hS (ci := 2) (k := 6) (by rw [eS3]; rfl) jf_o1 (by rw [eS3]; exact jf_s1_6 _) rfl (by decide) (hts _ q248) rfl rfl (tyX2_ok 6 (by decide)) ⟨rfl, rfl⟩ (Nat.le_of_ble_eq_true rfl) dX2_number_94 (fun H locs hP hS => ?_)
  refine lv_goto (tgt := 13) hx hb dX2_number_97 rfl ?_
  exact hr13 _ h _ _ _ hP hS (lv_sub hl [1, 2, 3, 0] rfl)
theorem jr_number_b114_ok {out : (Int32 ⊕ Nat) × jf_S} (hX : jf_OkX RX2 l p R s m args meth c A D E cX2_number 5 (some .int) 1 out) (F : Nat) (x3 : Int32) (x4 : Int32) (S : jf_S) (h : jr_number_b114 F x3 x4 S = some out) : jf_J p l e R s m args below meth c A D E fo pl 5 (jf_QXi below args s A D E fo pl out) 114 [(0, .ref (E.1 1)), (3, .int x3), (4, .int x4)] [] S := by
  intro H locs ls hP hS hl
  have hX0 := hX
  obtain ⟨⟨hx, hb, hml, hown, hts, hlk, hr, hlv, hV, het⟩, hfl, hcx⟩ := hX0
  unfold jr_number_b114 at h
  refine lv_aload_n hx hb dX2_number_114 rfl (lv_at hl 0 rfl) ?_
  refine lv_iload_n hx hb dX2_number_115 rfl (lv_at hl 1 rfl) ?_
  refine (jx_xb_some h).elim (fun gv1 => ?_) (fun gv1 => ?_)
  · obtain ⟨v1, S2, ev1, h⟩ := gv1
    refine jf_callV (ci := 2) (out := S2) hx hb hml hown hts hlv hV (jr_fail_met hfl ev1) jr_fail_g_X2 jr_fail_d (As := [.int x3]) (Nat.le_of_ble_eq_true rfl) (Nat.le_of_ble_eq_true rfl) hP hS jf_o1 rfl hl.1 rfl rfl (lv_room (Nat.le_of_ble_eq_true rfl)) dX2_number_116 (fun H locs hP hS => ?_)
    refine lv_iload hx hb dX2_number_119 (lv_at hl 2 rfl) ?_
    exact jf_xiret hx hb hr hlk hV hP hS h dX2_number_121
  · obtain ⟨v1, S2, ev1, ho⟩ := gv1
    subst ho
    exact jf_outV (ci := 2) (S1 := S2) (k := v1) hx hb hml hown hts hlv hV het hlk (jr_fail_met hfl ev1) jr_fail_g_X2 jr_fail_d (As := [.int x3]) (Nat.le_of_ble_eq_true rfl) (Nat.le_of_ble_eq_true rfl) (hcx _ rfl) hP hS jf_o1 rfl hl.1 rfl rfl (lv_room (Nat.le_of_ble_eq_true rfl)) dX2_number_116
theorem jr_number_b100_ok {out : (Int32 ⊕ Nat) × jf_S} (hX : jf_OkX RX2 l p R s m args meth c A D E cX2_number 5 (some .int) 1 out) (F : Nat) (x1 : Int32) (x3 : Int32) (x4 : Int32) (S : jf_S) (h : jr_number_b100 F x1 x3 x4 S = some out) : jf_J p l e R s m args below meth c A D E fo pl 5 (jf_QXi below args s A D E fo pl out) 100 [(0, .ref (E.1 1)), (1, .int x1), (3, .int x3), (4, .int x4)] [] S := by
  intro H locs ls hP hS hl
  have hX0 := hX
  obtain ⟨⟨hx, hb, hml, hown, hts, hlk, hr, hlv, hV, het⟩, hfl, hcx⟩ := hX0
  unfold jr_number_b100 at h
  refine lv_aload_n hx hb dX2_number_100 rfl (lv_at hl 0 rfl) ?_
  refine jf_get hx hb hts in_X2 hown hV hP (ci := 2) (k := 6) jf_o1 rfl (by decide) (hts _ q248) rfl rfl dX2_number_101 ?_
  refine lv_iload_n hx hb dX2_number_104 rfl (lv_at hl 2 rfl) ?_
  refine lv_icmp_eq (tgt := 114) hx hb dX2_number_105 rfl (fun c1 => ?_) (fun c1 => ?_)
  · rw [if_pos c1] at h
    exact jr_number_b114_ok hX F _ _ _ h _ _ _ hP hS (lv_sub hl [0, 2, 3] rfl)
  · rw [if_neg c1] at h
    refine lv_iload hx hb dX2_number_108 (lv_at hl 3 rfl) ?_
    refine lv_iload_n hx hb dX2_number_110 rfl (lv_at hl 1 rfl) ?_
    refine lv_icmp_le (tgt := 119) hx hb dX2_number_111 rfl (fun c2 => ?_) (fun c2 => ?_)
    · rw [if_pos c2] at h
      refine lv_iload hx hb dX2_number_119 (lv_at hl 3 rfl) ?_
      exact jf_xiret hx hb hr hlk hV hP hS h dX2_number_121
    · rw [if_neg c2] at h
      exact jr_number_b114_ok hX F _ _ _ h _ _ _ hP hS (lv_sub hl [0, 2, 3] rfl)
theorem jr_number_L13_ok {out : (Int32 ⊕ Nat) × jf_S} (hX : jf_OkX RX2 l p R s m args meth c A D E cX2_number 5 (some .int) 1 out) (F : Nat) {r13 : Int32 × Int32 × Int32 × jf_S → Option ((Int32 ⊕ Nat) × jf_S)} (hr13 : ∀ a, r13 a = some out → jf_J p l e R s m args below meth c A D E fo pl 5 (jf_QXi below args s A D E fo pl out) 13 [(0, .ref (E.1 1)), (1, .int a.1), (3, .int a.2.1), (4, .int a.2.2.1)] [] a.2.2.2) (x1 : Int32) (x3 : Int32) (x4 : Int32) (S : jf_S) (h : jr_number_L13 F r13 x1 x3 x4 S = some out) : jf_J p l e R s m args below meth c A D E fo pl 5 (jf_QXi below args s A D E fo pl out) 13 [(0, .ref (E.1 1)), (1, .int x1), (3, .int x3), (4, .int x4)] [] S := by
  intro H locs ls hP hS hl
  have hX0 := hX
  obtain ⟨⟨hx, hb, hml, hown, hts, hlk, hr, hlv, hV, het⟩, hfl, hcx⟩ := hX0
  unfold jr_number_L13 at h
  refine lv_aload_n hx hb dX2_number_13 rfl (lv_at hl 0 rfl) ?_
  refine jf_get hx hb hts in_X2 hown hV hP (ci := 2) (k := 6) jf_o1 rfl (by decide) (hts _ q248) rfl rfl dX2_number_14 ?_
  refine lv_aload_n hx hb dX2_number_17 rfl (lv_at hl 0 rfl) ?_
  refine jf_get hx hb hts in_X2 hown hV hP (ci := 2) (k := 5) jf_o1 rfl (by decide) (hts _ q247) rfl rfl dX2_number_18 ?_
  refine lv_icmp_ge (tgt := 100) hx hb dX2_number_21 rfl (fun c1 => ?_) (fun c1 => ?_)
  · rw [if_pos c1] at h
    exact jr_number_b100_ok hX F _ _ _ _ h _ _ _ hP hS hl
  · rw [if_neg c1] at h
    refine lv_aload_n hx hb dX2_number_24 rfl (lv_at hl 0 rfl) ?_
    refine jf_get hx hb hts in_X2 hown hV hP (ci := 2) (k := 0) jf_o1 rfl (by decide) (hts _ q240) rfl rfl dX2_number_25 ?_
    refine lv_aload_n hx hb dX2_number_28 rfl (lv_at hl 0 rfl) ?_
    refine jf_get hx hb hts in_X2 hown hV hP (ci := 2) (k := 6) jf_o1 rfl (by decide) (hts _ q248) rfl rfl dX2_number_29 ?_
    obtain ⟨j2, ej2, bj2, h⟩ := jx_ga_some h
    refine jf_bald hx hb hV hP jf_a1_0 ej2 bj2 dX2_number_32 ?_
    refine lv_bipush hx hb dX2_number_33 jx_kb48 ?_
    refine lv_icmp_lt (tgt := 100) hx hb dX2_number_35 rfl (fun c3 => ?_) (fun c3 => ?_)
    · rw [if_pos c3] at h
      exact jr_number_b100_ok hX F _ _ _ _ h _ _ _ hP hS hl
    · rw [if_neg c3] at h
      refine lv_aload_n hx hb dX2_number_38 rfl (lv_at hl 0 rfl) ?_
      refine jf_get hx hb hts in_X2 hown hV hP (ci := 2) (k := 0) jf_o1 rfl (by decide) (hts _ q240) rfl rfl dX2_number_39 ?_
      refine lv_aload_n hx hb dX2_number_42 rfl (lv_at hl 0 rfl) ?_
      refine jf_get hx hb hts in_X2 hown hV hP (ci := 2) (k := 6) jf_o1 rfl (by decide) (hts _ q248) rfl rfl dX2_number_43 ?_
      obtain ⟨j4, ej4, bj4, h⟩ := jx_ga_some h
      refine jf_bald hx hb hV hP jf_a1_0 ej4 bj4 dX2_number_46 ?_
      refine lv_bipush hx hb dX2_number_47 jx_kb57 ?_
      refine lv_icmp_gt (tgt := 100) hx hb dX2_number_49 rfl (fun c5 => ?_) (fun c5 => ?_)
      · rw [if_pos c5] at h
        exact jr_number_b100_ok hX F _ _ _ _ h _ _ _ hP hS hl
      · rw [if_neg c5] at h
        refine lv_aload_n hx hb dX2_number_52 rfl (lv_at hl 0 rfl) ?_
        refine jf_get hx hb hts in_X2 hown hV hP (ci := 2) (k := 6) jf_o1 rfl (by decide) (hts _ q248) rfl rfl dX2_number_53 ?_
        refine lv_iload_n hx hb dX2_number_56 rfl (lv_at hl 2 rfl) ?_
        refine lv_isub hx hb dX2_number_57 ?_
        refine lv_iconst hx hb dX2_number_58 jx_ki3 ?_
        refine lv_icmp_ne (tgt := 67) hx hb dX2_number_59 rfl (fun c6 => ?_) (fun c6 => ?_)
        · rw [if_neg c6] at h
          exact jr_number_b67_ok hX F hr13 _ _ _ _ h _ _ _ hP hS hl
        · rw [if_pos c6] at h
          refine lv_aload_n hx hb dX2_number_62 rfl (lv_at hl 0 rfl) ?_
          refine lv_iload_n hx hb dX2_number_63 rfl (lv_at hl 2 rfl) ?_
          refine (jx_xb_some h).elim (fun gv7 => ?_) (fun gv7 => ?_)
          · obtain ⟨v7, S8, ev7, h⟩ := gv7
            refine jf_callV (ci := 2) (out := S8) hx hb hml hown hts hlv hV (jr_fail_met hfl ev7) jr_fail_g_X2 jr_fail_d (As := [.int x3]) (Nat.le_of_ble_eq_true rfl) (Nat.le_of_ble_eq_true rfl) hP hS jf_o1 rfl hl.1 rfl rfl (lv_room (Nat.le_of_ble_eq_true rfl)) dX2_number_64 (fun H locs hP hS => ?_)
            exact jr_number_b67_ok hX F hr13 _ _ _ _ h _ _ _ hP hS hl
          · obtain ⟨v7, S8, ev7, ho⟩ := gv7
            subst ho
            exact jf_outV (ci := 2) (S1 := S8) (k := v7) hx hb hml hown hts hlv hV het hlk (jr_fail_met hfl ev7) jr_fail_g_X2 jr_fail_d (As := [.int x3]) (Nat.le_of_ble_eq_true rfl) (Nat.le_of_ble_eq_true rfl) (hcx _ rfl) hP hS jf_o1 rfl hl.1 rfl rfl (lv_room (Nat.le_of_ble_eq_true rfl)) dX2_number_64
theorem jr_number_h13_ok {out : (Int32 ⊕ Nat) × jf_S} (hX : jf_OkX RX2 l p R s m args meth c A D E cX2_number 5 (some .int) 1 out) (F : Nat) (n : Nat) (a : Int32 × Int32 × Int32 × jf_S) (h : jr_number_h13 F n a = some out) : jf_J p l e R s m args below meth c A D E fo pl 5 (jf_QXi below args s A D E fo pl out) 13 [(0, .ref (E.1 1)), (1, .int a.1), (3, .int a.2.1), (4, .int a.2.2.1)] [] a.2.2.2 :=
  jx_loop_ind (J := fun a => jf_J p l e R s m args below meth c A D E fo pl 5 (jf_QXi below args s A D E fo pl out) 13 [(0, .ref (E.1 1)), (1, .int a.1), (3, .int a.2.1), (4, .int a.2.2.1)] [] a.2.2.2) (fun r hr a h => jr_number_L13_ok hX F hr a.1 a.2.1 a.2.2.1 a.2.2.2 h) n a h
theorem jr_number_ok {out : (Int32 ⊕ Nat) × jf_S} (hX : jf_OkX RX2 l p R s m args meth c A D E cX2_number 5 (some .int) 1 out) (F : Nat) (x1 : Int32) (S : jf_S) (h : jr_number F x1 S = some out) : jf_J p l e R s m args below meth c A D E fo pl 5 (jf_QXi below args s A D E fo pl out) 0 [(0, .ref (E.1 1)), (1, .int x1)] [] S := by
  intro H locs ls hP hS hl
  have hX0 := hX
  obtain ⟨⟨hx, hb, hml, hown, hts, hlk, hr, hlv, hV, het⟩, hfl, hcx⟩ := hX0
  unfold jr_number at h
  refine lv_aload_n hx hb dX2_number_0 rfl (lv_at hl 0 rfl) ?_
  obtain ⟨q1, eq1, h⟩ := jx_bi_some h
  refine jf_callI hx hb hml hown hts hlv hV (jr_sign_met eq1) jr_sign_g_X2 jr_sign_d (As := []) (Nat.le_of_ble_eq_true rfl) (Nat.le_of_ble_eq_true rfl) hP hS (ci := 2) jf_o1 rfl hl.1 rfl rfl (lv_room (Nat.le_of_ble_eq_true rfl)) dX2_number_1 (fun H locs hP hS => ?_)
  obtain ⟨y2, ey2, h⟩ := jx_nx_some h
  refine jx_topi ey2 ?_
  refine lv_istore_n (lv' := [(2, .int y2), (0, .ref (E.1 1)), (1, .int x1)]) hx hb dX2_number_4 rfl hl (Nat.le_of_ble_eq_true rfl) rfl (fun ls hl => ?_)
  refine lv_aload_n hx hb dX2_number_5 rfl (lv_at hl 1 rfl) ?_
  refine jf_get hx hb hts in_X2 hown hV hP (ci := 2) (k := 6) jf_o1 rfl (by decide) (hts _ q248) rfl rfl dX2_number_6 ?_
  obtain ⟨y3, ey3, h⟩ := jx_nx_some h
  refine jx_topi ey3 ?_
  refine lv_istore_n (lv' := [(3, .int y3), (2, .int y2), (0, .ref (E.1 1)), (1, .int x1)]) hx hb dX2_number_9 rfl hl (Nat.le_of_ble_eq_true rfl) rfl (fun ls hl => ?_)
  refine lv_iconst hx hb dX2_number_10 jx_ki0 ?_
  obtain ⟨y4, ey4, h⟩ := jx_nx_some h
  refine jx_topi ey4 ?_
  refine lv_istore (lv' := [(4, .int y4), (3, .int y3), (2, .int y2), (0, .ref (E.1 1)), (1, .int x1)]) hx hb dX2_number_11 hl (Nat.le_of_ble_eq_true rfl) rfl (fun ls hl => ?_)
  exact jr_number_h13_ok hX F F _ h _ _ _ hP hS (lv_sub hl [3, 4, 1, 0] rfl)
theorem jr_number_met {l : Launch} {D : va_G} {E : jf_E} {A : Nat → Prop} {fo : Nat → Nat → Option Nat} {pl : va_W} {F : Nat} (hfl : l.flags = flags0) {x1 : Int32} {S : jf_S} {out : (Int32 ⊕ Nat) × jf_S} (h : jr_number F x1 S = some out) : jf_MXi l D E A fo pl yX2_number cX2_number 5 (some .int) 1 [.ref (E.1 1), .int x1] S out :=
  jf_MXi_of hfl (own := RX2) ⟨by decide, rfl, Nat.le_of_ble_eq_true rfl⟩ (fun hX => jr_number_ok hX F x1 S h)
theorem jr_expect_g_X2 : GoodIn lw_all (wsV RX2 85 RX2 yX2_expect (ws_ yX2_expect cX2_expect 2 none)) := lw_V q1030 q1032 qs22 q103 q1033
theorem jr_expect_d : yX2_expect.cls = RX2 ∧ yX2_expect.cls ≠ "java/lang/invoke/MethodHandle" ∧ yX2_expect.cls ≠ "java/lang/invoke/VarHandle" ∧ (parseMethodDescriptor yX2_expect.desc).map (fun d => d.parameters.length) = some 1 := by decide +kernel
theorem jr_expect_ok {out : (Unit ⊕ Nat) × jf_S} (hX : jf_OkX RX2 l p R s m args meth c A D E cX2_expect 2 none 6 out) (F : Nat) (x1 : Nat) (S : jf_S) (h : jr_expect F x1 S = some out) : jf_J p l e R s m args below meth c A D E fo pl 2 (jf_QXv below args s A D E fo pl out) 0 [(0, .ref (E.1 1)), (1, .ref (E.2.2.2.1 x1))] [] S := by
  intro H locs ls hP hS hl
  have hX0 := hX
  obtain ⟨⟨hx, hb, hml, hown, hts, hlk, hr, hlv, hV, het⟩, hfl, hcx⟩ := hX0
  unfold jr_expect at h
  refine lv_aload_n hx hb dX2_expect_0 rfl (lv_at hl 0 rfl) ?_
  refine lv_aload_n hx hb dX2_expect_1 rfl (lv_at hl 1 rfl) ?_
  obtain ⟨q1, eq1, h⟩ := jx_bi_some h
  refine jf_callI hx hb hml hown hts hlv hV (jr_takes_met eq1) jr_takes_g_X2 jr_takes_d (As := [.ref (E.2.2.2.1 x1)]) (Nat.le_of_ble_eq_true rfl) (Nat.le_of_ble_eq_true rfl) hP hS (ci := 2) jf_o1 rfl hl.1 rfl rfl (lv_room (Nat.le_of_ble_eq_true rfl)) dX2_expect_2 (fun H locs hP hS => ?_)
  refine lv_if_ne (tgt := 16) hx hb dX2_expect_5 rfl (fun c2 => ?_) (fun c2 => ?_)
  · rw [if_neg c2] at h
    exact jf_xvret hx hb hr hlk hV hP hS h dX2_expect_16
  · rw [if_pos c2] at h
    refine lv_aload_n hx hb dX2_expect_8 rfl (lv_at hl 0 rfl) ?_
    refine lv_aload_n hx hb dX2_expect_9 rfl (lv_at hl 0 rfl) ?_
    refine jf_get hx hb hts in_X2 hown hV hP (ci := 2) (k := 6) jf_o1 rfl (by decide) (hts _ q248) rfl rfl dX2_expect_10 ?_
    refine (jx_xb_some h).elim (fun gv3 => ?_) (fun gv3 => ?_)
    · obtain ⟨v3, S4, ev3, h⟩ := gv3
      refine jf_callV (ci := 2) (out := S4) hx hb hml hown hts hlv hV (jr_fail_met hfl ev3) jr_fail_g_X2 jr_fail_d (As := [.int (q1.2.1 1 6)]) (Nat.le_of_ble_eq_true rfl) (Nat.le_of_ble_eq_true rfl) hP hS jf_o1 rfl hl.1 rfl rfl (lv_room (Nat.le_of_ble_eq_true rfl)) dX2_expect_13 (fun H locs hP hS => ?_)
      exact jf_xvret hx hb hr hlk hV hP hS h dX2_expect_16
    · obtain ⟨v3, S4, ev3, ho⟩ := gv3
      subst ho
      exact jf_outV (ci := 2) (S1 := S4) (k := v3) hx hb hml hown hts hlv hV het hlk (jr_fail_met hfl ev3) jr_fail_g_X2 jr_fail_d (As := [.int (q1.2.1 1 6)]) (Nat.le_of_ble_eq_true rfl) (Nat.le_of_ble_eq_true rfl) (hcx _ rfl) hP hS jf_o1 rfl hl.1 rfl rfl (lv_room (Nat.le_of_ble_eq_true rfl)) dX2_expect_13
theorem jr_expect_met {l : Launch} {D : va_G} {E : jf_E} {A : Nat → Prop} {fo : Nat → Nat → Option Nat} {pl : va_W} {F : Nat} (hfl : l.flags = flags0) {x1 : Nat} {S : jf_S} {out : (Unit ⊕ Nat) × jf_S} (h : jr_expect F x1 S = some out) : jf_MXv l D E A fo pl yX2_expect cX2_expect 2 none 6 [.ref (E.1 1), .ref (E.2.2.2.1 x1)] S out :=
  jf_MXv_of hfl (own := RX2) ⟨by decide, rfl, Nat.le_of_ble_eq_true rfl⟩ (fun hX => jr_expect_ok hX F x1 S h)
theorem jr_cell_g_X2 : GoodIn lw_all (wsV RX2 98 RX2 yX2_cell (ws_ yX2_cell cX2_cell 1 (some .int))) := lw_V q1025 q1027 qs21 q103 q1028
theorem jr_cell_d : yX2_cell.cls = RX2 ∧ yX2_cell.cls ≠ "java/lang/invoke/MethodHandle" ∧ yX2_cell.cls ≠ "java/lang/invoke/VarHandle" ∧ (parseMethodDescriptor yX2_cell.desc).map (fun d => d.parameters.length) = some 0 := by decide +kernel
theorem jr_cell_ok {out : (Int32 ⊕ Nat) × jf_S} (hX : jf_OkX RX2 l p R s m args meth c A D E cX2_cell 1 (some .int) 7 out) (F : Nat)  (S : jf_S) (h : jr_cell F  S = some out) : jf_J p l e R s m args below meth c A D E fo pl 1 (jf_QXi below args s A D E fo pl out) 0 [(0, .ref (E.1 1))] [] S := by
  intro H locs ls hP hS hl
  have hX0 := hX
  obtain ⟨⟨hx, hb, hml, hown, hts, hlk, hr, hlv, hV, het⟩, hfl, hcx⟩ := hX0
  unfold jr_cell at h
  refine lv_aload_n hx hb dX2_cell_0 rfl (lv_at hl 0 rfl) ?_
  refine jf_ldcS (i := 11) (ix := 83) (tx := "c") hx hb hown hV (by decide) rfl rfl dX2_cell_1 ?_
  refine (jx_xb_some h).elim (fun gv1 => ?_) (fun gv1 => ?_)
  · obtain ⟨v1, S2, ev1, h⟩ := gv1
    refine jf_callV (ci := 2) (out := S2) hx hb hml hown hts hlv hV (jr_expect_met hfl ev1) jr_expect_g_X2 jr_expect_d (As := [.ref (E.2.2.2.1 11)]) (Nat.le_of_ble_eq_true rfl) (Nat.le_of_ble_eq_true rfl) hP hS jf_o1 rfl hl.1 rfl rfl (lv_room (Nat.le_of_ble_eq_true rfl)) dX2_cell_3 (fun H locs hP hS => ?_)
    refine lv_aload_n hx hb dX2_cell_6 rfl (lv_at hl 0 rfl) ?_
    refine lv_bipush hx hb dX2_cell_7 jx_kb15 ?_
    refine (jx_xb_some h).elim (fun gv3 => ?_) (fun gv3 => ?_)
    · obtain ⟨v3, S4, ev3, h⟩ := gv3
      refine jf_callI (ci := 2) (out := (v3, S4)) hx hb hml hown hts hlv hV (jr_number_met hfl ev3) jr_number_g_X2 jr_number_d (As := [.int (nI 15)]) (Nat.le_of_ble_eq_true rfl) (Nat.le_of_ble_eq_true rfl) hP hS jf_o1 rfl hl.1 rfl rfl (lv_room (Nat.le_of_ble_eq_true rfl)) dX2_cell_9 (fun H locs hP hS => ?_)
      exact jf_xiret hx hb hr hlk hV hP hS h dX2_cell_12
    · obtain ⟨v3, S4, ev3, ho⟩ := gv3
      subst ho
      exact jf_outV (ci := 2) (S1 := S4) (k := v3) hx hb hml hown hts hlv hV het hlk (jr_number_met hfl ev3) jr_number_g_X2 jr_number_d (As := [.int (nI 15)]) (Nat.le_of_ble_eq_true rfl) (Nat.le_of_ble_eq_true rfl) (hcx _ rfl) hP hS jf_o1 rfl hl.1 rfl rfl (lv_room (Nat.le_of_ble_eq_true rfl)) dX2_cell_9
  · obtain ⟨v1, S2, ev1, ho⟩ := gv1
    subst ho
    exact jf_outV (ci := 2) (S1 := S2) (k := v1) hx hb hml hown hts hlv hV het hlk (jr_expect_met hfl ev1) jr_expect_g_X2 jr_expect_d (As := [.ref (E.2.2.2.1 11)]) (Nat.le_of_ble_eq_true rfl) (Nat.le_of_ble_eq_true rfl) (hcx _ rfl) hP hS jf_o1 rfl hl.1 rfl rfl (lv_room (Nat.le_of_ble_eq_true rfl)) dX2_cell_3
theorem jr_cell_met {l : Launch} {D : va_G} {E : jf_E} {A : Nat → Prop} {fo : Nat → Nat → Option Nat} {pl : va_W} {F : Nat} (hfl : l.flags = flags0)  {S : jf_S} {out : (Int32 ⊕ Nat) × jf_S} (h : jr_cell F  S = some out) : jf_MXi l D E A fo pl yX2_cell cX2_cell 1 (some .int) 7 [.ref (E.1 1)] S out :=
  jf_MXi_of hfl (own := RX2) ⟨by decide, rfl, Nat.le_of_ble_eq_true rfl⟩ (fun hX => jr_cell_ok hX F  S h)
theorem jr_place_g_X2 : GoodIn lw_all (wsV RX2 116 RX2 yX2_place (ws_ yX2_place cX2_place 1 (some .int))) := lw_V q1088 q1090 qs24 q103 q1091
theorem jr_place_d : yX2_place.cls = RX2 ∧ yX2_place.cls ≠ "java/lang/invoke/MethodHandle" ∧ yX2_place.cls ≠ "java/lang/invoke/VarHandle" ∧ (parseMethodDescriptor yX2_place.desc).map (fun d => d.parameters.length) = some 0 := by decide +kernel
theorem jr_place_ok {out : (Int32 ⊕ Nat) × jf_S} (hX : jf_OkX RX2 l p R s m args meth c A D E cX2_place 1 (some .int) 2 out) (F : Nat)  (S : jf_S) (h : jr_place F  S = some out) : jf_J p l e R s m args below meth c A D E fo pl 1 (jf_QXi below args s A D E fo pl out) 0 [(0, .ref (E.1 1))] [] S := by
  intro H locs ls hP hS hl
  have hX0 := hX
  obtain ⟨⟨hx, hb, hml, hown, hts, hlk, hr, hlv, hV, het⟩, hfl, hcx⟩ := hX0
  unfold jr_place at h
  refine lv_aload_n hx hb dX2_place_0 rfl (lv_at hl 0 rfl) ?_
  refine lv_bipush hx hb dX2_place_1 jx_kb39 ?_
  refine (jx_xb_some h).elim (fun gv1 => ?_) (fun gv1 => ?_)
  · obtain ⟨v1, S2, ev1, h⟩ := gv1
    refine jf_callI (ci := 2) (out := (v1, S2)) hx hb hml hown hts hlv hV (jr_number_met hfl ev1) jr_number_g_X2 jr_number_d (As := [.int (nI 39)]) (Nat.le_of_ble_eq_true rfl) (Nat.le_of_ble_eq_true rfl) hP hS jf_o1 rfl hl.1 rfl rfl (lv_room (Nat.le_of_ble_eq_true rfl)) dX2_place_3 (fun H locs hP hS => ?_)
    exact jf_xiret hx hb hr hlk hV hP hS h dX2_place_6
  · obtain ⟨v1, S2, ev1, ho⟩ := gv1
    subst ho
    exact jf_outV (ci := 2) (S1 := S2) (k := v1) hx hb hml hown hts hlv hV het hlk (jr_number_met hfl ev1) jr_number_g_X2 jr_number_d (As := [.int (nI 39)]) (Nat.le_of_ble_eq_true rfl) (Nat.le_of_ble_eq_true rfl) (hcx _ rfl) hP hS jf_o1 rfl hl.1 rfl rfl (lv_room (Nat.le_of_ble_eq_true rfl)) dX2_place_3
theorem jr_place_met {l : Launch} {D : va_G} {E : jf_E} {A : Nat → Prop} {fo : Nat → Nat → Option Nat} {pl : va_W} {F : Nat} (hfl : l.flags = flags0)  {S : jf_S} {out : (Int32 ⊕ Nat) × jf_S} (h : jr_place F  S = some out) : jf_MXi l D E A fo pl yX2_place cX2_place 1 (some .int) 2 [.ref (E.1 1)] S out :=
  jf_MXi_of hfl (own := RX2) ⟨by decide, rfl, Nat.le_of_ble_eq_true rfl⟩ (fun hX => jr_place_ok hX F  S h)
theorem jr_kind_g_X2 : GoodIn lw_all (wsV RX2 129 RX2 yX2_kind (ws_ yX2_kind cX2_kind 1 (some .int))) := lw_V q1147 q1149 qs26 q103 q1150
theorem jr_kind_d : yX2_kind.cls = RX2 ∧ yX2_kind.cls ≠ "java/lang/invoke/MethodHandle" ∧ yX2_kind.cls ≠ "java/lang/invoke/VarHandle" ∧ (parseMethodDescriptor yX2_kind.desc).map (fun d => d.parameters.length) = some 0 := by decide +kernel
theorem jr_kind_ok {out : (Int32 ⊕ Nat) × jf_S} (hX : jf_OkX RX2 l p R s m args meth c A D E cX2_kind 1 (some .int) 6 out) (F : Nat)  (S : jf_S) (h : jr_kind F  S = some out) : jf_J p l e R s m args below meth c A D E fo pl 1 (jf_QXi below args s A D E fo pl out) 0 [(0, .ref (E.1 1))] [] S := by
  intro H locs ls hP hS hl
  have hX0 := hX
  obtain ⟨⟨hx, hb, hml, hown, hts, hlk, hr, hlv, hV, het⟩, hfl, hcx⟩ := hX0
  unfold jr_kind at h
  refine lv_aload_n hx hb dX2_kind_0 rfl (lv_at hl 0 rfl) ?_
  refine jf_ldcS (i := 13) (ix := 155) (tx := "kind") hx hb hown hV (by decide) rfl rfl dX2_kind_1 ?_
  obtain ⟨q1, eq1, h⟩ := jx_bi_some h
  refine jf_callI hx hb hml hown hts hlv hV (jr_takes_met eq1) jr_takes_g_X2 jr_takes_d (As := [.ref (E.2.2.2.1 13)]) (Nat.le_of_ble_eq_true rfl) (Nat.le_of_ble_eq_true rfl) hP hS (ci := 2) jf_o1 rfl hl.1 rfl rfl (lv_room (Nat.le_of_ble_eq_true rfl)) dX2_kind_3 (fun H locs hP hS => ?_)
  refine lv_if_eq (tgt := 17) hx hb dX2_kind_6 rfl (fun c2 => ?_) (fun c2 => ?_)
  · rw [if_pos c2] at h
    refine lv_iconst hx hb dX2_kind_17 jx_ki0 ?_
    exact jf_xiret hx hb hr hlk hV hP hS h dX2_kind_18
  · rw [if_neg c2] at h
    refine lv_aload_n hx hb dX2_kind_9 rfl (lv_at hl 0 rfl) ?_
    refine lv_iconst hx hb dX2_kind_10 jx_ki3 ?_
    refine (jx_xb_some h).elim (fun gv3 => ?_) (fun gv3 => ?_)
    · obtain ⟨v3, S4, ev3, h⟩ := gv3
      refine jf_callI (ci := 2) (out := (v3, S4)) hx hb hml hown hts hlv hV (jr_number_met hfl ev3) jr_number_g_X2 jr_number_d (As := [.int (nI 3)]) (Nat.le_of_ble_eq_true rfl) (Nat.le_of_ble_eq_true rfl) hP hS jf_o1 rfl hl.1 rfl rfl (lv_room (Nat.le_of_ble_eq_true rfl)) dX2_kind_11 (fun H locs hP hS => ?_)
      refine lv_goto (tgt := 18) hx hb dX2_kind_14 rfl ?_
      exact jf_xiret hx hb hr hlk hV hP hS h dX2_kind_18
    · obtain ⟨v3, S4, ev3, ho⟩ := gv3
      subst ho
      exact jf_outV (ci := 2) (S1 := S4) (k := v3) hx hb hml hown hts hlv hV het hlk (jr_number_met hfl ev3) jr_number_g_X2 jr_number_d (As := [.int (nI 3)]) (Nat.le_of_ble_eq_true rfl) (Nat.le_of_ble_eq_true rfl) (hcx _ rfl) hP hS jf_o1 rfl hl.1 rfl rfl (lv_room (Nat.le_of_ble_eq_true rfl)) dX2_kind_11
theorem jr_kind_met {l : Launch} {D : va_G} {E : jf_E} {A : Nat → Prop} {fo : Nat → Nat → Option Nat} {pl : va_W} {F : Nat} (hfl : l.flags = flags0)  {S : jf_S} {out : (Int32 ⊕ Nat) × jf_S} (h : jr_kind F  S = some out) : jf_MXi l D E A fo pl yX2_kind cX2_kind 1 (some .int) 6 [.ref (E.1 1)] S out :=
  jf_MXi_of hfl (own := RX2) ⟨by decide, rfl, Nat.le_of_ble_eq_true rfl⟩ (fun hX => jr_kind_ok hX F  S h)
end

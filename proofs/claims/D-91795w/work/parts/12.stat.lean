
def jx_Mi (l : Launch) (y : MethodName) (cc : ByteArray) (nL : Nat) (rt : Option FieldType) (lv : Nat) (As : List Value) (r : Int32) : Prop := Met l y (ws_ y cc nL rt) (jx_rm lv) (va_Pc As (fun _ => True)) (vp_Si (fun r' => r' = r)) 0 0 (fun _ => False)
def jx_Ml (l : Launch) (y : MethodName) (cc : ByteArray) (nL : Nat) (rt : Option FieldType) (lv : Nat) (As : List Value) (r : Int64) : Prop := Met l y (ws_ y cc nL rt) (jx_rm lv) (va_Pc As (fun _ => True)) (vp_Sl (fun r' => r' = r)) 0 0 (fun _ => False)
def jx_J (p : Program) (l : Launch) (e : Env) (R : Room) (s : State) (m : MethodId) (args : Array Value) (below : List Frame) (meth : Method) (c : Code) (nL : Nat) (Q : State → Prop) (pc : Nat) (lv : List (Nat × Value)) (stk : List Value) : Prop :=
  ∀ ls : Array Slot, lv_has ls nL lv → W p l e R s m args below meth c s.heap [] 0 0 Q (F0 m pc ls stk)
def jx_Ok (R0 : String) (p : Program) (R : Room) (s : State) (m : MethodId) (args : Array Value) (meth : Method) (c : Code) (cc : ByteArray) (nL : Nat) (rt : Option FieldType) (lv : Nat) : Prop :=
  p.tables.exec = Jvm.exec ∧ c.code = cc ∧ c.maxLocals = nL ∧ s.vm.findClass R0 = some m.cls ∧ (∀ w ∈ lw_all, w.before args s = true) ∧ meth.locks = false ∧ meth.sig.returnType = rt ∧ R = jx_rm lv
section
variable {p : Program} {l : Launch} {e : Env} {R : Room} {s : State} {m : MethodId} {args : Array Value} {below : List Frame} {meth : Method} {c : Code} {H : Heap} {locs : List Loc} {cells slots : Nat} {Q : State → Prop} {pc : Nat} {ls : Array Slot} {rest : List Value} {cc : ByteArray}
theorem jx_iretS {v out : Int32} {free : Addr → Prop} (hx : p.tables.exec = Jvm.exec) (hb : c.code = cc) (hr : meth.sig.returnType = some .int) (hlk : meth.locks = false) (h : some v = some out) (hdg : decode cc pc = .ok (.ireturn, 1)) : W p l e R s m args below meth c s.heap [] 0 0 (MQ below (vp_Si (fun r' => r' = out)) args s 0 0 free) (F0 m pc ls [.int v]) :=
  W.iret (v := v) hx hb hr (fun t ht hW => ⟨v, rfl, Option.some.inj h, ht⟩) (fun _ h => by cases h) hdg hlk
theorem jx_zretS {v out : Int32} {free : Addr → Prop} (hx : p.tables.exec = Jvm.exec) (hb : c.code = cc) (hr : meth.sig.returnType = some .boolean) (hlk : meth.locks = false) (hn : narrow .boolean (.int v) = .int v ∧ fits .boolean (.int v) = true) (h : some v = some out) (hdg : decode cc pc = .ok (.ireturn, 1)) : W p l e R s m args below meth c s.heap [] 0 0 (MQ below (vp_Si (fun r' => r' = out)) args s 0 0 free) (F0 m pc ls [.int v]) :=
  W.zret (v := v) hx hb hr hn.1 (fun t ht hW => ⟨v, rfl, Option.some.inj h, ht⟩) (fun _ h => by cases h) hdg hlk
theorem jx_lretS {v out : Int64} {free : Addr → Prop} (hx : p.tables.exec = Jvm.exec) (hb : c.code = cc) (hr : meth.sig.returnType = some .long) (hlk : meth.locks = false) (h : some v = some out) (hdg : decode cc pc = .ok (.lreturn, 1)) : W p l e R s m args below meth c s.heap [] 0 0 (MQ below (vp_Sl (fun r' => r' = out)) args s 0 0 free) (F0 m pc ls [.long v]) :=
  W.lret (v := v) hx hb hr (fun t ht hW => ⟨v, rfl, Option.some.inj h, ht⟩) (fun _ h => by cases h) hdg hlk
theorem jx_callSi {out : Int32} {own : String} {y : MethodName} {bytes : ByteArray} {maxL nL lv' ix n : Nat} {rt : Option FieldType} {stk : List Value} (hx : p.tables.exec = Jvm.exec) (hb : c.code = cc) (hml : c.maxLocals = nL) (hown : s.vm.findClass own = some m.cls) (hts : ∀ w ∈ lw_all, w.before args s = true) {As : List Value} (hM : jx_Mi l y bytes maxL rt lv' As out) (hg : GoodIn lw_all (va_wsS own ix y (ws_ y bytes maxL rt))) (hd : y.cls ≠ "java/lang/invoke/MethodHandle" ∧ y.cls ≠ "java/lang/invoke/VarHandle" ∧ (parseMethodDescriptor y.desc).map (fun d => d.parameters.length) = some n) (hR : lv' + 1 ≤ R.frames ∧ 8 + (maxL + 11) + 40 * lv' ≤ R.locals) (hls : ls.size = nL) (hn : As.length = n) (hst : stk = As.reverse ++ rest) (hW : 2 * (F0 m pc ls stk).monitorRoom + (rest.map fun v => v.category).sum ≤ 8) (hdg : decode cc pc = .ok (.invokestatic ix, 3)) (hc : cells ≤ R.cells ∧ slots ≤ R.slots)
    (kk : W p l e R s m args below meth c H locs cells slots Q (F0 m (pc + 3) ls (.int out :: rest))) : W p l e R s m args below meth c H locs cells slots Q (F0 m pc ls stk) := by
  unfold jx_Mi at hM
  refine vp_callSi (W.runS (As := As) (rest := rest) (own := own) (index := ix) ⟨hx, hb, hml, hown, hts⟩ hM (va_cwS n hts hg rfl rfl rfl hd hR) ⟨fun a U g mk h => h, fun U hU hW => ⟨rfl, trivial⟩⟩ rfl hn hls hst hW hdg hc) (fun r hr => ?_)
  subst hr
  exact kk
theorem jx_Mi_of {out : Int32} {R0 : String} {y : MethodName} {nL lv : Nat} {rt : Option FieldType} {As : List Value} (hy : plainName y.cls = true) (hl : (lg_sl As).length ≤ nL) (hR0 : y.cls = R0)
    (body : ∀ {p : Program} {e : Env} {s : State} {m : MethodId} {args : Array Value} {below : List Frame} {meth : Method} {c : Code}, jx_Ok R0 p (jx_rm lv) s m args meth c cc nL rt lv → jx_J p l e (jx_rm lv) s m args below meth c nL (MQ below (vp_Si (fun r' => r' = out)) args s 0 0 (fun _ => False)) 0 (lv_args 0 As) []) : jx_Mi l y cc nL rt lv As out := by
  unfold jx_Mi
  refine Met.ofW (cc := cc) (maxL := nL) (ret := rt) hy rfl ?_
  intro p e s m args below meth c s₁ B hml hv
  obtain ⟨rfl, -⟩ := hv
  have hts := atoms_spec (ws := ws_ y cc nL rt) B.pre
  have hts : ∀ w ∈ lw_all, w.before _ s = true := fun w h => hts w (List.mem_cons_of_mem _ h)
  have hown : s.vm.findClass R0 = some m.cls := by
    have h := findClass_of_methodNamed B.named
    rw [hR0] at h
    exact h
  have hl := lv_entry As (n := nL) hl
  rw [lg_entry_eq]
  exact body (p := p) (e := e) (s := s) (m := m) (below := below) (meth := meth) (c := c) ⟨B.exec, B.bytes, hml, hown, hts, B.notSynchronized, B.returns, rfl⟩ _ hl
theorem jx_callSl {out : Int64} {own : String} {y : MethodName} {bytes : ByteArray} {maxL nL lv' ix n : Nat} {rt : Option FieldType} {stk : List Value} (hx : p.tables.exec = Jvm.exec) (hb : c.code = cc) (hml : c.maxLocals = nL) (hown : s.vm.findClass own = some m.cls) (hts : ∀ w ∈ lw_all, w.before args s = true) {As : List Value} (hM : jx_Ml l y bytes maxL rt lv' As out) (hg : GoodIn lw_all (va_wsS own ix y (ws_ y bytes maxL rt))) (hd : y.cls ≠ "java/lang/invoke/MethodHandle" ∧ y.cls ≠ "java/lang/invoke/VarHandle" ∧ (parseMethodDescriptor y.desc).map (fun d => d.parameters.length) = some n) (hR : lv' + 1 ≤ R.frames ∧ 8 + (maxL + 11) + 40 * lv' ≤ R.locals) (hls : ls.size = nL) (hn : As.length = n) (hst : stk = As.reverse ++ rest) (hW : 2 * (F0 m pc ls stk).monitorRoom + (rest.map fun v => v.category).sum ≤ 8) (hdg : decode cc pc = .ok (.invokestatic ix, 3)) (hc : cells ≤ R.cells ∧ slots ≤ R.slots)
    (kk : W p l e R s m args below meth c H locs cells slots Q (F0 m (pc + 3) ls (.long out :: rest))) : W p l e R s m args below meth c H locs cells slots Q (F0 m pc ls stk) := by
  unfold jx_Ml at hM
  refine vp_callSl (W.runS (As := As) (rest := rest) (own := own) (index := ix) ⟨hx, hb, hml, hown, hts⟩ hM (va_cwS n hts hg rfl rfl rfl hd hR) ⟨fun a U g mk h => h, fun U hU hW => ⟨rfl, trivial⟩⟩ rfl hn hls hst hW hdg hc) (fun r hr => ?_)
  subst hr
  exact kk
theorem jx_Ml_of {out : Int64} {R0 : String} {y : MethodName} {nL lv : Nat} {rt : Option FieldType} {As : List Value} (hy : plainName y.cls = true) (hl : (lg_sl As).length ≤ nL) (hR0 : y.cls = R0)
    (body : ∀ {p : Program} {e : Env} {s : State} {m : MethodId} {args : Array Value} {below : List Frame} {meth : Method} {c : Code}, jx_Ok R0 p (jx_rm lv) s m args meth c cc nL rt lv → jx_J p l e (jx_rm lv) s m args below meth c nL (MQ below (vp_Sl (fun r' => r' = out)) args s 0 0 (fun _ => False)) 0 (lv_args 0 As) []) : jx_Ml l y cc nL rt lv As out := by
  unfold jx_Ml
  refine Met.ofW (cc := cc) (maxL := nL) (ret := rt) hy rfl ?_
  intro p e s m args below meth c s₁ B hml hv
  obtain ⟨rfl, -⟩ := hv
  have hts := atoms_spec (ws := ws_ y cc nL rt) B.pre
  have hts : ∀ w ∈ lw_all, w.before _ s = true := fun w h => hts w (List.mem_cons_of_mem _ h)
  have hown : s.vm.findClass R0 = some m.cls := by
    have h := findClass_of_methodNamed B.named
    rw [hR0] at h
    exact h
  have hl := lv_entry As (n := nL) hl
  rw [lg_entry_eq]
  exact body (p := p) (e := e) (s := s) (m := m) (below := below) (meth := meth) (c := c) ⟨B.exec, B.bytes, hml, hown, hts, B.notSynchronized, B.returns, rfl⟩ _ hl
end
noncomputable def jm_in (x0 : Int32) (x1 : Int32) (x2 : Int32) : Option Int32 :=
  if x0 < x1 then
    some (nI 0)
  else
    if x2 < x0 then
      some (nI 0)
    else
      some (nI 1)
theorem jm_in_d : yX6_in.cls ≠ "java/lang/invoke/MethodHandle" ∧ yX6_in.cls ≠ "java/lang/invoke/VarHandle" ∧ (parseMethodDescriptor yX6_in.desc).map (fun d => d.parameters.length) = some 3 := by decide +kernel
theorem jm_in_g_X6 : GoodIn lw_all (va_wsS RX6 116 yX6_in (ws_ yX6_in cX6_in 3 (some .boolean))) := lw_S q1816 q1817 q110 q1818
set_option maxRecDepth 100000 in
theorem jm_in_met {l : Launch} {x0 : Int32} {x1 : Int32} {x2 : Int32} {out : Int32} (h : jm_in x0 x1 x2 = some out) : jx_Mi l yX6_in cX6_in 3 (some .boolean) 0 [.int x0, .int x1, .int x2] out := by
  refine jx_Mi_of (R0 := RX6) (by decide) (Nat.le_of_ble_eq_true rfl) rfl (fun {p e s m args below meth c} hX => ?_)
  obtain ⟨hx, hb, hml, hown, hts, hlk, hr, hlv⟩ := hX
  intro ls hl
  have hl : lv_has ls 3 [(0, .int x0), (1, .int x1), (2, .int x2)] := hl
  unfold jm_in at h
  refine lv_iload_n hx hb dX6_in_0 rfl (lv_at hl 0 rfl) ?_
  refine lv_iload_n hx hb dX6_in_1 rfl (lv_at hl 1 rfl) ?_
  refine lv_icmp_lt (tgt := 14) hx hb dX6_in_2 rfl (fun c1 => ?_) (fun c1 => ?_)
  · rw [if_pos c1] at h
    refine lv_iconst hx hb dX6_in_14 jx_ki0 ?_
    exact jx_zretS hx hb hr hlk jx_nz0 h dX6_in_15
  · rw [if_neg c1] at h
    refine lv_iload_n hx hb dX6_in_5 rfl (lv_at hl 0 rfl) ?_
    refine lv_iload_n hx hb dX6_in_6 rfl (lv_at hl 2 rfl) ?_
    refine lv_icmp_gt (tgt := 14) hx hb dX6_in_7 rfl (fun c2 => ?_) (fun c2 => ?_)
    · rw [if_pos c2] at h
      refine lv_iconst hx hb dX6_in_14 jx_ki0 ?_
      exact jx_zretS hx hb hr hlk jx_nz0 h dX6_in_15
    · rw [if_neg c2] at h
      refine lv_iconst hx hb dX6_in_10 jx_ki1 ?_
      refine lv_goto (tgt := 15) hx hb dX6_in_11 rfl ?_
      exact jx_zretS hx hb hr hlk jx_nz1 h dX6_in_15
noncomputable def jm_has (x0 : Int64) (x2 : Int32) : Option Int32 :=
  if (lg_cmp ((x0 >>> (x2.toInt64 &&& 63)) &&& (lN 1)) (lN 1)) = 0 then
    some (nI 1)
  else
    some (nI 0)
theorem jm_has_d : yX6_has.cls ≠ "java/lang/invoke/MethodHandle" ∧ yX6_has.cls ≠ "java/lang/invoke/VarHandle" ∧ (parseMethodDescriptor yX6_has.desc).map (fun d => d.parameters.length) = some 2 := by decide +kernel
theorem jm_has_g_X6 : GoodIn lw_all (va_wsS RX6 295 yX6_has (ws_ yX6_has cX6_has 3 (some .boolean))) := lw_S q1948 q1949 q110 q1950
set_option maxRecDepth 100000 in
theorem jm_has_met {l : Launch} {x0 : Int64} {x2 : Int32} {out : Int32} (h : jm_has x0 x2 = some out) : jx_Mi l yX6_has cX6_has 3 (some .boolean) 0 [.long x0, .int x2] out := by
  refine jx_Mi_of (R0 := RX6) (by decide) (Nat.le_of_ble_eq_true rfl) rfl (fun {p e s m args below meth c} hX => ?_)
  obtain ⟨hx, hb, hml, hown, hts, hlk, hr, hlv⟩ := hX
  intro ls hl
  have hl : lv_has ls 3 [(0, .long x0), (2, .int x2)] := hl
  unfold jm_has at h
  refine lv_lload_n hx hb dX6_has_0 rfl (lv_at hl 0 rfl) ?_
  refine lv_iload_n hx hb dX6_has_1 rfl (lv_at hl 1 rfl) ?_
  refine lv_lshr hx hb dX6_has_2 rfl ?_
  refine lv_lconst hx hb dX6_has_3 jx_kl1 ?_
  refine lv_land hx hb dX6_has_4 ?_
  refine lv_lconst hx hb dX6_has_5 jx_kl1 ?_
  refine W.lcmp hx hb dX6_has_6 ?_
  refine lv_if_ne (tgt := 14) hx hb dX6_has_7 rfl (fun c1 => ?_) (fun c1 => ?_)
  · rw [if_neg c1] at h
    refine lv_iconst hx hb dX6_has_14 jx_ki0 ?_
    exact jx_zretS hx hb hr hlk jx_nz0 h dX6_has_15
  · rw [if_pos c1] at h
    refine lv_iconst hx hb dX6_has_10 jx_ki1 ?_
    refine lv_goto (tgt := 15) hx hb dX6_has_11 rfl ?_
    exact jx_zretS hx hb hr hlk jx_nz1 h dX6_has_15
noncomputable def jm_noCell (x0 : Int32) : Option Int32 :=
  (jm_in x0 (nI 0) (nI 15)).bind fun q1 =>
    if q1 = 0 then
      some (nI 1)
    else
      some (nI 0)
theorem jm_noCell_d : yX6_noCell.cls ≠ "java/lang/invoke/MethodHandle" ∧ yX6_noCell.cls ≠ "java/lang/invoke/VarHandle" ∧ (parseMethodDescriptor yX6_noCell.desc).map (fun d => d.parameters.length) = some 1 := by decide +kernel
theorem jm_noCell_g_X6 : GoodIn lw_all (va_wsS RX6 276 yX6_noCell (ws_ yX6_noCell cX6_noCell 1 (some .boolean))) := lw_S q1895 q1896 q110 q1897
set_option maxRecDepth 100000 in
theorem jm_noCell_met {l : Launch} {x0 : Int32} {out : Int32} (h : jm_noCell x0 = some out) : jx_Mi l yX6_noCell cX6_noCell 1 (some .boolean) 1 [.int x0] out := by
  refine jx_Mi_of (R0 := RX6) (by decide) (Nat.le_of_ble_eq_true rfl) rfl (fun {p e s m args below meth c} hX => ?_)
  obtain ⟨hx, hb, hml, hown, hts, hlk, hr, hlv⟩ := hX
  intro ls hl
  have hl : lv_has ls 1 [(0, .int x0)] := hl
  unfold jm_noCell at h
  refine lv_iload_n hx hb dX6_noCell_0 rfl (lv_at hl 0 rfl) ?_
  refine lv_iconst hx hb dX6_noCell_1 jx_ki0 ?_
  refine lv_bipush hx hb dX6_noCell_2 jx_kb15 ?_
  obtain ⟨q1, eq1, h⟩ := jx_bi_some h
  refine jx_callSi hx hb hml hown hts (jm_in_met eq1) jm_in_g_X6 jm_in_d (As := [.int x0, .int (nI 0), .int (nI 15)]) (by rw [hlv]; decide) hl.1 rfl rfl (lv_room (Nat.le_of_ble_eq_true rfl)) dX6_noCell_4 (by rw [hlv]; decide) ?_
  refine lv_if_ne (tgt := 14) hx hb dX6_noCell_7 rfl (fun c2 => ?_) (fun c2 => ?_)
  · rw [if_neg c2] at h
    refine lv_iconst hx hb dX6_noCell_14 jx_ki0 ?_
    exact jx_zretS hx hb hr hlk jx_nz0 h dX6_noCell_15
  · rw [if_pos c2] at h
    refine lv_iconst hx hb dX6_noCell_10 jx_ki1 ?_
    refine lv_goto (tgt := 15) hx hb dX6_noCell_11 rfl ?_
    exact jx_zretS hx hb hr hlk jx_nz1 h dX6_noCell_15
noncomputable def jx_lbits (x0 : Int64) : Option Int32 :=
  jx_nx (x0 - (((x0.toUInt64 >>> ((nI 1).toInt64.toUInt64 &&& Int64.toUInt64 63)).toInt64) &&& (6148914691236517205 : Int64))) fun y1 =>
    jx_nx ((y1 &&& (3689348814741910323 : Int64)) + (((y1.toUInt64 >>> ((nI 2).toInt64.toUInt64 &&& Int64.toUInt64 63)).toInt64) &&& (3689348814741910323 : Int64))) fun y2 =>
      jx_nx ((y2 + ((y2.toUInt64 >>> ((nI 4).toInt64.toUInt64 &&& Int64.toUInt64 63)).toInt64)) &&& (1085102592571150095 : Int64)) fun y3 =>
        jx_nx (y3 + ((y3.toUInt64 >>> ((nI 8).toInt64.toUInt64 &&& Int64.toUInt64 63)).toInt64)) fun y4 =>
          jx_nx (y4 + ((y4.toUInt64 >>> ((nI 16).toInt64.toUInt64 &&& Int64.toUInt64 63)).toInt64)) fun y5 =>
            jx_nx (y5 + ((y5.toUInt64 >>> ((nI 32).toInt64.toUInt64 &&& Int64.toUInt64 63)).toInt64)) fun y6 =>
              some (y6.toInt32 &&& (nI 127))
theorem jx_lbits_d : yJ14_bitCount.cls ≠ "java/lang/invoke/MethodHandle" ∧ yJ14_bitCount.cls ≠ "java/lang/invoke/VarHandle" ∧ (parseMethodDescriptor yJ14_bitCount.desc).map (fun d => d.parameters.length) = some 1 := by decide +kernel
theorem jx_lbits_g_X1 : GoodIn lw_all (va_wsS RX1 368 yJ14_bitCount (ws_ yJ14_bitCount cJ14_bitCount 2 (some .int))) := lw_S q1503 q1504 q135 q1505
theorem jx_lbits_g_X6 : GoodIn lw_all (va_wsS RX6 432 yJ14_bitCount (ws_ yJ14_bitCount cJ14_bitCount 2 (some .int))) := lw_S q2090 q1504 q135 q1505
set_option maxRecDepth 100000 in
theorem jx_lbits_met {l : Launch} {x0 : Int64} {out : Int32} (h : jx_lbits x0 = some out) : jx_Mi l yJ14_bitCount cJ14_bitCount 2 (some .int) 0 [.long x0] out := by
  refine jx_Mi_of (R0 := RJ14) (by decide) (Nat.le_of_ble_eq_true rfl) rfl (fun {p e s m args below meth c} hX => ?_)
  obtain ⟨hx, hb, hml, hown, hts, hlk, hr, hlv⟩ := hX
  intro ls hl
  have hl : lv_has ls 2 [(0, .long x0)] := hl
  unfold jx_lbits at h
  refine lv_lload_n hx hb dJ14_bitCount_0 rfl (lv_at hl 0 rfl) ?_
  refine lv_lload_n hx hb dJ14_bitCount_1 rfl (lv_at hl 0 rfl) ?_
  refine lv_iconst hx hb dJ14_bitCount_2 jx_ki1 ?_
  refine lv_lushr hx hb dJ14_bitCount_3 rfl ?_
  refine lv_ldc2 hx hb hown (hts _ q1506) dJ14_bitCount_4 ?_
  refine lv_land hx hb dJ14_bitCount_7 ?_
  refine lv_lsub hx hb dJ14_bitCount_8 ?_
  obtain ⟨y1, ey1, h⟩ := jx_nx_some h
  refine jx_topl ey1 ?_
  refine lv_lstore_n (lv' := [(0, .long y1)]) hx hb dJ14_bitCount_9 rfl hl (Nat.le_of_ble_eq_true rfl) rfl (fun ls hl => ?_)
  refine lv_lload_n hx hb dJ14_bitCount_10 rfl (lv_at hl 0 rfl) ?_
  refine lv_ldc2 hx hb hown (hts _ q1507) dJ14_bitCount_11 ?_
  refine lv_land hx hb dJ14_bitCount_14 ?_
  refine lv_lload_n hx hb dJ14_bitCount_15 rfl (lv_at hl 0 rfl) ?_
  refine lv_iconst hx hb dJ14_bitCount_16 jx_ki2 ?_
  refine lv_lushr hx hb dJ14_bitCount_17 rfl ?_
  refine lv_ldc2 hx hb hown (hts _ q1507) dJ14_bitCount_18 ?_
  refine lv_land hx hb dJ14_bitCount_21 ?_
  refine lv_ladd hx hb dJ14_bitCount_22 ?_
  obtain ⟨y2, ey2, h⟩ := jx_nx_some h
  refine jx_topl ey2 ?_
  refine lv_lstore_n (lv' := [(0, .long y2)]) hx hb dJ14_bitCount_23 rfl hl (Nat.le_of_ble_eq_true rfl) rfl (fun ls hl => ?_)
  refine lv_lload_n hx hb dJ14_bitCount_24 rfl (lv_at hl 0 rfl) ?_
  refine lv_lload_n hx hb dJ14_bitCount_25 rfl (lv_at hl 0 rfl) ?_
  refine lv_iconst hx hb dJ14_bitCount_26 jx_ki4 ?_
  refine lv_lushr hx hb dJ14_bitCount_27 rfl ?_
  refine lv_ladd hx hb dJ14_bitCount_28 ?_
  refine lv_ldc2 hx hb hown (hts _ q1508) dJ14_bitCount_29 ?_
  refine lv_land hx hb dJ14_bitCount_32 ?_
  obtain ⟨y3, ey3, h⟩ := jx_nx_some h
  refine jx_topl ey3 ?_
  refine lv_lstore_n (lv' := [(0, .long y3)]) hx hb dJ14_bitCount_33 rfl hl (Nat.le_of_ble_eq_true rfl) rfl (fun ls hl => ?_)
  refine lv_lload_n hx hb dJ14_bitCount_34 rfl (lv_at hl 0 rfl) ?_
  refine lv_lload_n hx hb dJ14_bitCount_35 rfl (lv_at hl 0 rfl) ?_
  refine lv_bipush hx hb dJ14_bitCount_36 jx_kb8 ?_
  refine lv_lushr hx hb dJ14_bitCount_38 rfl ?_
  refine lv_ladd hx hb dJ14_bitCount_39 ?_
  obtain ⟨y4, ey4, h⟩ := jx_nx_some h
  refine jx_topl ey4 ?_
  refine lv_lstore_n (lv' := [(0, .long y4)]) hx hb dJ14_bitCount_40 rfl hl (Nat.le_of_ble_eq_true rfl) rfl (fun ls hl => ?_)
  refine lv_lload_n hx hb dJ14_bitCount_41 rfl (lv_at hl 0 rfl) ?_
  refine lv_lload_n hx hb dJ14_bitCount_42 rfl (lv_at hl 0 rfl) ?_
  refine lv_bipush hx hb dJ14_bitCount_43 jx_kb16 ?_
  refine lv_lushr hx hb dJ14_bitCount_45 rfl ?_
  refine lv_ladd hx hb dJ14_bitCount_46 ?_
  obtain ⟨y5, ey5, h⟩ := jx_nx_some h
  refine jx_topl ey5 ?_
  refine lv_lstore_n (lv' := [(0, .long y5)]) hx hb dJ14_bitCount_47 rfl hl (Nat.le_of_ble_eq_true rfl) rfl (fun ls hl => ?_)
  refine lv_lload_n hx hb dJ14_bitCount_48 rfl (lv_at hl 0 rfl) ?_
  refine lv_lload_n hx hb dJ14_bitCount_49 rfl (lv_at hl 0 rfl) ?_
  refine lv_bipush hx hb dJ14_bitCount_50 jx_kb32 ?_
  refine lv_lushr hx hb dJ14_bitCount_52 rfl ?_
  refine lv_ladd hx hb dJ14_bitCount_53 ?_
  obtain ⟨y6, ey6, h⟩ := jx_nx_some h
  refine jx_topl ey6 ?_
  refine lv_lstore_n (lv' := [(0, .long y6)]) hx hb dJ14_bitCount_54 rfl hl (Nat.le_of_ble_eq_true rfl) rfl (fun ls hl => ?_)
  refine lv_lload_n hx hb dJ14_bitCount_55 rfl (lv_at hl 0 rfl) ?_
  refine lv_l2i hx hb dJ14_bitCount_56 rfl ?_
  refine lv_bipush hx hb dJ14_bitCount_57 jx_kb127 ?_
  refine lv_iand hx hb dJ14_bitCount_59 ?_
  exact jx_iretS hx hb hr hlk h dJ14_bitCount_60
noncomputable def jx_ibits (x0 : Int32) : Option Int32 :=
  jx_nx (x0 - (((x0.toUInt32 >>> ((nI 1).toUInt32 &&& Int32.toUInt32 31)).toInt32) &&& (1431655765 : Int32))) fun y1 =>
    jx_nx ((y1 &&& (858993459 : Int32)) + (((y1.toUInt32 >>> ((nI 2).toUInt32 &&& Int32.toUInt32 31)).toInt32) &&& (858993459 : Int32))) fun y2 =>
      jx_nx ((y2 + ((y2.toUInt32 >>> ((nI 4).toUInt32 &&& Int32.toUInt32 31)).toInt32)) &&& (252645135 : Int32)) fun y3 =>
        jx_nx (y3 + ((y3.toUInt32 >>> ((nI 8).toUInt32 &&& Int32.toUInt32 31)).toInt32)) fun y4 =>
          jx_nx (y4 + ((y4.toUInt32 >>> ((nI 16).toUInt32 &&& Int32.toUInt32 31)).toInt32)) fun y5 =>
            some (y5 &&& (nI 63))
theorem jx_ibits_d : yJ15_bitCount.cls ≠ "java/lang/invoke/MethodHandle" ∧ yJ15_bitCount.cls ≠ "java/lang/invoke/VarHandle" ∧ (parseMethodDescriptor yJ15_bitCount.desc).map (fun d => d.parameters.length) = some 1 := by decide +kernel
theorem jx_ibits_g_X1 : GoodIn lw_all (va_wsS RX1 390 yJ15_bitCount (ws_ yJ15_bitCount cJ15_bitCount 1 (some .int))) := lw_S q859 q860 q136 q861
set_option maxRecDepth 100000 in
theorem jx_ibits_met {l : Launch} {x0 : Int32} {out : Int32} (h : jx_ibits x0 = some out) : jx_Mi l yJ15_bitCount cJ15_bitCount 1 (some .int) 0 [.int x0] out := by
  refine jx_Mi_of (R0 := RJ15) (by decide) (Nat.le_of_ble_eq_true rfl) rfl (fun {p e s m args below meth c} hX => ?_)
  obtain ⟨hx, hb, hml, hown, hts, hlk, hr, hlv⟩ := hX
  intro ls hl
  have hl : lv_has ls 1 [(0, .int x0)] := hl
  unfold jx_ibits at h
  refine lv_iload_n hx hb dJ15_bitCount_0 rfl (lv_at hl 0 rfl) ?_
  refine lv_iload_n hx hb dJ15_bitCount_1 rfl (lv_at hl 0 rfl) ?_
  refine lv_iconst hx hb dJ15_bitCount_2 jx_ki1 ?_
  refine lv_iushr hx hb dJ15_bitCount_3 rfl ?_
  refine lv_ldcw hx hb hown (hts _ q862) dJ15_bitCount_4 ?_
  refine lv_iand hx hb dJ15_bitCount_7 ?_
  refine lv_isub hx hb dJ15_bitCount_8 ?_
  obtain ⟨y1, ey1, h⟩ := jx_nx_some h
  refine jx_topi ey1 ?_
  refine lv_istore_n (lv' := [(0, .int y1)]) hx hb dJ15_bitCount_9 rfl hl (Nat.le_of_ble_eq_true rfl) rfl (fun ls hl => ?_)
  refine lv_iload_n hx hb dJ15_bitCount_10 rfl (lv_at hl 0 rfl) ?_
  refine lv_ldcw hx hb hown (hts _ q863) dJ15_bitCount_11 ?_
  refine lv_iand hx hb dJ15_bitCount_14 ?_
  refine lv_iload_n hx hb dJ15_bitCount_15 rfl (lv_at hl 0 rfl) ?_
  refine lv_iconst hx hb dJ15_bitCount_16 jx_ki2 ?_
  refine lv_iushr hx hb dJ15_bitCount_17 rfl ?_
  refine lv_ldcw hx hb hown (hts _ q863) dJ15_bitCount_18 ?_
  refine lv_iand hx hb dJ15_bitCount_21 ?_
  refine lv_iadd hx hb dJ15_bitCount_22 ?_
  obtain ⟨y2, ey2, h⟩ := jx_nx_some h
  refine jx_topi ey2 ?_
  refine lv_istore_n (lv' := [(0, .int y2)]) hx hb dJ15_bitCount_23 rfl hl (Nat.le_of_ble_eq_true rfl) rfl (fun ls hl => ?_)
  refine lv_iload_n hx hb dJ15_bitCount_24 rfl (lv_at hl 0 rfl) ?_
  refine lv_iload_n hx hb dJ15_bitCount_25 rfl (lv_at hl 0 rfl) ?_
  refine lv_iconst hx hb dJ15_bitCount_26 jx_ki4 ?_
  refine lv_iushr hx hb dJ15_bitCount_27 rfl ?_
  refine lv_iadd hx hb dJ15_bitCount_28 ?_
  refine lv_ldcw hx hb hown (hts _ q864) dJ15_bitCount_29 ?_
  refine lv_iand hx hb dJ15_bitCount_32 ?_
  obtain ⟨y3, ey3, h⟩ := jx_nx_some h
  refine jx_topi ey3 ?_
  refine lv_istore_n (lv' := [(0, .int y3)]) hx hb dJ15_bitCount_33 rfl hl (Nat.le_of_ble_eq_true rfl) rfl (fun ls hl => ?_)
  refine lv_iload_n hx hb dJ15_bitCount_34 rfl (lv_at hl 0 rfl) ?_
  refine lv_iload_n hx hb dJ15_bitCount_35 rfl (lv_at hl 0 rfl) ?_
  refine lv_bipush hx hb dJ15_bitCount_36 jx_kb8 ?_
  refine lv_iushr hx hb dJ15_bitCount_38 rfl ?_
  refine lv_iadd hx hb dJ15_bitCount_39 ?_
  obtain ⟨y4, ey4, h⟩ := jx_nx_some h
  refine jx_topi ey4 ?_
  refine lv_istore_n (lv' := [(0, .int y4)]) hx hb dJ15_bitCount_40 rfl hl (Nat.le_of_ble_eq_true rfl) rfl (fun ls hl => ?_)
  refine lv_iload_n hx hb dJ15_bitCount_41 rfl (lv_at hl 0 rfl) ?_
  refine lv_iload_n hx hb dJ15_bitCount_42 rfl (lv_at hl 0 rfl) ?_
  refine lv_bipush hx hb dJ15_bitCount_43 jx_kb16 ?_
  refine lv_iushr hx hb dJ15_bitCount_45 rfl ?_
  refine lv_iadd hx hb dJ15_bitCount_46 ?_
  obtain ⟨y5, ey5, h⟩ := jx_nx_some h
  refine jx_topi ey5 ?_
  refine lv_istore_n (lv' := [(0, .int y5)]) hx hb dJ15_bitCount_47 rfl hl (Nat.le_of_ble_eq_true rfl) rfl (fun ls hl => ?_)
  refine lv_iload_n hx hb dJ15_bitCount_48 rfl (lv_at hl 0 rfl) ?_
  refine lv_bipush hx hb dJ15_bitCount_49 jx_kb63 ?_
  refine lv_iand hx hb dJ15_bitCount_51 ?_
  exact jx_iretS hx hb hr hlk h dJ15_bitCount_52
noncomputable def jf_bit (x0 : Int32) : Option Int64 :=
  if x0 < 0 then
    some (lN 0)
  else
    if x0 < (nI 40) then
      some ((lN 1) <<< (x0.toInt64 &&& 63))
    else
      some (lN 0)
theorem jf_bit_d : yX1_bit.cls ≠ "java/lang/invoke/MethodHandle" ∧ yX1_bit.cls ≠ "java/lang/invoke/VarHandle" ∧ (parseMethodDescriptor yX1_bit.desc).map (fun d => d.parameters.length) = some 1 := by decide +kernel
theorem jf_bit_g_X1 : GoodIn lw_all (va_wsS RX1 355 yX1_bit (ws_ yX1_bit cX1_bit 1 (some .long))) := lw_S q713 q714 q102 q715
set_option maxRecDepth 100000 in
theorem jf_bit_met {l : Launch} {x0 : Int32} {out : Int64} (h : jf_bit x0 = some out) : jx_Ml l yX1_bit cX1_bit 1 (some .long) 0 [.int x0] out := by
  refine jx_Ml_of (R0 := RX1) (by decide) (Nat.le_of_ble_eq_true rfl) rfl (fun {p e s m args below meth c} hX => ?_)
  obtain ⟨hx, hb, hml, hown, hts, hlk, hr, hlv⟩ := hX
  intro ls hl
  have hl : lv_has ls 1 [(0, .int x0)] := hl
  unfold jf_bit at h
  refine lv_iload_n hx hb dX1_bit_0 rfl (lv_at hl 0 rfl) ?_
  refine lv_if_lt (tgt := 10) hx hb dX1_bit_1 rfl (fun c1 => ?_) (fun c1 => ?_)
  · rw [if_pos c1] at h
    refine lv_lconst hx hb dX1_bit_10 jx_kl0 ?_
    refine lv_goto (tgt := 17) hx hb dX1_bit_11 rfl ?_
    exact jx_lretS hx hb hr hlk h dX1_bit_17
  · rw [if_neg c1] at h
    refine lv_iload_n hx hb dX1_bit_4 rfl (lv_at hl 0 rfl) ?_
    refine lv_bipush hx hb dX1_bit_5 jx_kb40 ?_
    refine lv_icmp_lt (tgt := 14) hx hb dX1_bit_7 rfl (fun c2 => ?_) (fun c2 => ?_)
    · rw [if_pos c2] at h
      refine lv_lconst hx hb dX1_bit_14 jx_kl1 ?_
      refine lv_iload_n hx hb dX1_bit_15 rfl (lv_at hl 0 rfl) ?_
      refine lv_lshl hx hb dX1_bit_16 rfl ?_
      exact jx_lretS hx hb hr hlk h dX1_bit_17
    · rw [if_neg c2] at h
      refine lv_lconst hx hb dX1_bit_10 jx_kl0 ?_
      refine lv_goto (tgt := 17) hx hb dX1_bit_11 rfl ?_
      exact jx_lretS hx hb hr hlk h dX1_bit_17
noncomputable def jf_isIn (x0 : Int32) (x1 : Int32) (x2 : Int32) : Option Int32 :=
  if x0 < x1 then
    some (nI 0)
  else
    if x2 < x0 then
      some (nI 0)
    else
      some (nI 1)
theorem jf_isIn_d : yX1_isIn.cls ≠ "java/lang/invoke/MethodHandle" ∧ yX1_isIn.cls ≠ "java/lang/invoke/VarHandle" ∧ (parseMethodDescriptor yX1_isIn.desc).map (fun d => d.parameters.length) = some 3 := by decide +kernel
theorem jf_isIn_g_X1 : GoodIn lw_all (va_wsS RX1 73 yX1_isIn (ws_ yX1_isIn cX1_isIn 3 (some .boolean))) := lw_S q515 q516 q102 q517
set_option maxRecDepth 100000 in
theorem jf_isIn_met {l : Launch} {x0 : Int32} {x1 : Int32} {x2 : Int32} {out : Int32} (h : jf_isIn x0 x1 x2 = some out) : jx_Mi l yX1_isIn cX1_isIn 3 (some .boolean) 0 [.int x0, .int x1, .int x2] out := by
  refine jx_Mi_of (R0 := RX1) (by decide) (Nat.le_of_ble_eq_true rfl) rfl (fun {p e s m args below meth c} hX => ?_)
  obtain ⟨hx, hb, hml, hown, hts, hlk, hr, hlv⟩ := hX
  intro ls hl
  have hl : lv_has ls 3 [(0, .int x0), (1, .int x1), (2, .int x2)] := hl
  unfold jf_isIn at h
  refine lv_iload_n hx hb dX1_isIn_0 rfl (lv_at hl 0 rfl) ?_
  refine lv_iload_n hx hb dX1_isIn_1 rfl (lv_at hl 1 rfl) ?_
  refine lv_icmp_lt (tgt := 14) hx hb dX1_isIn_2 rfl (fun c1 => ?_) (fun c1 => ?_)
  · rw [if_pos c1] at h
    refine lv_iconst hx hb dX1_isIn_14 jx_ki0 ?_
    exact jx_zretS hx hb hr hlk jx_nz0 h dX1_isIn_15
  · rw [if_neg c1] at h
    refine lv_iload_n hx hb dX1_isIn_5 rfl (lv_at hl 0 rfl) ?_
    refine lv_iload_n hx hb dX1_isIn_6 rfl (lv_at hl 2 rfl) ?_
    refine lv_icmp_gt (tgt := 14) hx hb dX1_isIn_7 rfl (fun c2 => ?_) (fun c2 => ?_)
    · rw [if_pos c2] at h
      refine lv_iconst hx hb dX1_isIn_14 jx_ki0 ?_
      exact jx_zretS hx hb hr hlk jx_nz0 h dX1_isIn_15
    · rw [if_neg c2] at h
      refine lv_iconst hx hb dX1_isIn_10 jx_ki1 ?_
      refine lv_goto (tgt := 15) hx hb dX1_isIn_11 rfl ?_
      exact jx_zretS hx hb hr hlk jx_nz1 h dX1_isIn_15
noncomputable def jf_ifHolds (x0 : Int32) (x1 : Int32) (x2 : Int32) : Option Int32 :=
  if x1 = (nI 60) then
    if x2 ≤ x0 then
      some (nI 0)
    else
      some (nI 1)
  else
    if x1 = (nI 62) then
      if x0 ≤ x2 then
        some (nI 0)
      else
        some (nI 1)
    else
      if x0 = x2 then
        some (nI 1)
      else
        some (nI 0)
theorem jf_ifHolds_d : yX12_holds.cls ≠ "java/lang/invoke/MethodHandle" ∧ yX12_holds.cls ≠ "java/lang/invoke/VarHandle" ∧ (parseMethodDescriptor yX12_holds.desc).map (fun d => d.parameters.length) = some 3 := by decide +kernel
theorem jf_ifHolds_g_X1 : GoodIn lw_all (va_wsS RX1 270 yX12_holds (ws_ yX12_holds cX12_holds 3 (some .boolean))) := lw_S q927 q656 q120 q657
theorem jf_ifHolds_g_X12 : GoodIn lw_all (va_wsS RX12 37 yX12_holds (ws_ yX12_holds cX12_holds 3 (some .boolean))) := lw_S q655 q656 q120 q657
set_option maxRecDepth 100000 in
theorem jf_ifHolds_met {l : Launch} {x0 : Int32} {x1 : Int32} {x2 : Int32} {out : Int32} (h : jf_ifHolds x0 x1 x2 = some out) : jx_Mi l yX12_holds cX12_holds 3 (some .boolean) 0 [.int x0, .int x1, .int x2] out := by
  refine jx_Mi_of (R0 := RX12) (by decide) (Nat.le_of_ble_eq_true rfl) rfl (fun {p e s m args below meth c} hX => ?_)
  obtain ⟨hx, hb, hml, hown, hts, hlk, hr, hlv⟩ := hX
  intro ls hl
  have hl : lv_has ls 3 [(0, .int x0), (1, .int x1), (2, .int x2)] := hl
  unfold jf_ifHolds at h
  refine lv_iload_n hx hb dX12_holds_0 rfl (lv_at hl 1 rfl) ?_
  refine lv_bipush hx hb dX12_holds_1 jx_kb60 ?_
  refine lv_icmp_ne (tgt := 19) hx hb dX12_holds_3 rfl (fun c1 => ?_) (fun c1 => ?_)
  · rw [if_neg c1] at h
    refine lv_iload_n hx hb dX12_holds_19 rfl (lv_at hl 1 rfl) ?_
    refine lv_bipush hx hb dX12_holds_20 jx_kb62 ?_
    refine lv_icmp_ne (tgt := 38) hx hb dX12_holds_22 rfl (fun c2 => ?_) (fun c2 => ?_)
    · rw [if_neg c2] at h
      refine lv_iload_n hx hb dX12_holds_38 rfl (lv_at hl 0 rfl) ?_
      refine lv_iload_n hx hb dX12_holds_39 rfl (lv_at hl 2 rfl) ?_
      refine lv_icmp_ne (tgt := 47) hx hb dX12_holds_40 rfl (fun c3 => ?_) (fun c3 => ?_)
      · rw [if_neg c3] at h
        refine lv_iconst hx hb dX12_holds_47 jx_ki0 ?_
        exact jx_zretS hx hb hr hlk jx_nz0 h dX12_holds_48
      · rw [if_pos c3] at h
        refine lv_iconst hx hb dX12_holds_43 jx_ki1 ?_
        refine lv_goto (tgt := 48) hx hb dX12_holds_44 rfl ?_
        exact jx_zretS hx hb hr hlk jx_nz1 h dX12_holds_48
    · rw [if_pos c2] at h
      refine lv_iload_n hx hb dX12_holds_25 rfl (lv_at hl 0 rfl) ?_
      refine lv_iload_n hx hb dX12_holds_26 rfl (lv_at hl 2 rfl) ?_
      refine lv_icmp_le (tgt := 34) hx hb dX12_holds_27 rfl (fun c4 => ?_) (fun c4 => ?_)
      · rw [if_pos c4] at h
        refine lv_iconst hx hb dX12_holds_34 jx_ki0 ?_
        refine lv_goto (tgt := 48) hx hb dX12_holds_35 rfl ?_
        exact jx_zretS hx hb hr hlk jx_nz0 h dX12_holds_48
      · rw [if_neg c4] at h
        refine lv_iconst hx hb dX12_holds_30 jx_ki1 ?_
        refine lv_goto (tgt := 48) hx hb dX12_holds_31 rfl ?_
        exact jx_zretS hx hb hr hlk jx_nz1 h dX12_holds_48
  · rw [if_pos c1] at h
    refine lv_iload_n hx hb dX12_holds_6 rfl (lv_at hl 0 rfl) ?_
    refine lv_iload_n hx hb dX12_holds_7 rfl (lv_at hl 2 rfl) ?_
    refine lv_icmp_ge (tgt := 15) hx hb dX12_holds_8 rfl (fun c5 => ?_) (fun c5 => ?_)
    · rw [if_pos c5] at h
      refine lv_iconst hx hb dX12_holds_15 jx_ki0 ?_
      refine lv_goto (tgt := 48) hx hb dX12_holds_16 rfl ?_
      exact jx_zretS hx hb hr hlk jx_nz0 h dX12_holds_48
    · rw [if_neg c5] at h
      refine lv_iconst hx hb dX12_holds_11 jx_ki1 ?_
      refine lv_goto (tgt := 48) hx hb dX12_holds_12 rfl ?_
      exact jx_zretS hx hb hr hlk jx_nz1 h dX12_holds_48
theorem jx_mmin_s : Cond.static Lib.Math.min.name ∈ lw_all := q1525
theorem jx_mmin_i : Cond.initialized "java/lang/Math" ∈ lw_all := q133
theorem jx_mmin_c : Cond.code Lib.Math.min.name Lib.Math.min.code 2 (some .int) ∈ lw_all := q1526
theorem jx_labs_s : Cond.static Lib.MathLoose.abs_long.x ∈ lw_all := q673
theorem jx_labs_c : Cond.code Lib.MathLoose.abs_long.x Lib.MathLoose.abs_long.code 2 (some .long) ∈ lw_all := q674
/-! the JDK's String.length and charAt over string constants -/
theorem jx_sSt.moved {A : Nat → Prop} {s U : State} (hW : s.WarmedH U.vm) (hq : ∀ a : Nat, a < s.heap.size → ¬ A a → U.heap[a]? = s.heap[a]?) (h : jx_sSt A s s.heap) : jx_sSt A U U.heap :=
  ⟨va_Z.kept (va_Z.moved hW.alike h.1) hq, va_Zq.kept (va_Zq.moved hW.alike h.2) hq⟩
def jx_sB (A : Nat → Prop) (i a : Nat) (U : State) : Prop := i < 14 ∧ jx_sAt A i a U U.heap ∧ jx_sSt A U U.heap
theorem jx_sB.blind {A : Nat → Prop} {i a : Nat} {av : List Value} : FrameBlind (va_Pc av (jx_sB A i a)) := by
  intro b U g mk h
  obtain ⟨h0, hi, h1, h2⟩ := h
  exact ⟨h0, hi, h1.moved (u := U) (U := U.calling g mk b) (Vm.Alike.refl U.vm), h2.moved (State.WarmedH.refl U) (fun _ _ _ => rfl)⟩
theorem jx_sB.moved {A : Nat → Prop} {i a : Nat} {s U : State} (hW : s.WarmedH U.vm) (hq : ∀ a : Nat, a < s.heap.size → ¬ A a → U.heap[a]? = s.heap[a]?) (h : jx_sB A i a s) : jx_sB A i a U :=
  ⟨h.1, (h.2.1.moved hW.alike).kept hq, h.2.2.moved hW hq⟩
def jx_Ms (l : Launch) (y : MethodName) (cc : ByteArray) (nL : Nat) (rt : Option FieldType) (lv : Nat) (As : List Value) (B : State → Prop) (r : Int32) : Prop := Met l y (ws_ y cc nL rt) (jx_rm lv) (va_Pc As B) (vp_Si (fun r' => r' = r)) 0 0 (fun _ => False)
section
variable {p : Program} {l : Launch} {e : Env} {R : Room} {s : State} {m : MethodId} {args : Array Value} {below : List Frame} {meth : Method} {c : Code} {H : Heap} {locs : List Loc} {cells slots : Nat} {Q : State → Prop} {pc : Nat} {ls : Array Slot} {rest : List Value} {cc : ByteArray} {A : Nat → Prop} {i a : Nat}
theorem jx_Ms_of {out : Int32} {R0 : String} {y : MethodName} {nL lv : Nat} {rt : Option FieldType} {As : List Value} {B : State → Prop} (hy : plainName y.cls = true) (hl : (lg_sl As).length ≤ nL) (hR0 : y.cls = R0)
    (body : ∀ {p : Program} {e : Env} {s : State} {m : MethodId} {args : Array Value} {below : List Frame} {meth : Method} {c : Code}, jx_Ok R0 p (jx_rm lv) s m args meth c cc nL rt lv → B s → jx_J p l e (jx_rm lv) s m args below meth c nL (MQ below (vp_Si (fun r' => r' = out)) args s 0 0 (fun _ => False)) 0 (lv_args 0 As) []) : jx_Ms l y cc nL rt lv As B out := by
  unfold jx_Ms
  refine Met.ofW (cc := cc) (maxL := nL) (ret := rt) hy rfl ?_
  intro p e s m args below meth c s₁ B hml hv
  obtain ⟨rfl, hB⟩ := hv
  have hts := atoms_spec (ws := ws_ y cc nL rt) B.pre
  have hts : ∀ w ∈ lw_all, w.before _ s = true := fun w h => hts w (List.mem_cons_of_mem _ h)
  have hown : s.vm.findClass R0 = some m.cls := by
    have h := findClass_of_methodNamed B.named
    rw [hR0] at h
    exact h
  have hl := lv_entry As (n := nL) hl
  rw [lg_entry_eq]
  exact body (p := p) (e := e) (s := s) (m := m) (below := below) (meth := meth) (c := c) ⟨B.exec, B.bytes, hml, hown, hts, B.notSynchronized, B.returns, rfl⟩ hB _ hl
/-- a call through an object that changes nothing -/
theorem jx_callVs {out : Int32} {own C : String} {y : MethodName} {bytes : ByteArray} {maxL nL lv' ix n b : Nat} {rt : Option FieldType} {stk : List Value} {B : State → Prop} (hx : p.tables.exec = Jvm.exec) (hb : c.code = cc) (hml : c.maxLocals = nL) (hown : s.vm.findClass own = some m.cls) (hts : ∀ w ∈ lw_all, w.before args s = true) {As : List Value} (hM : jx_Ms l y bytes maxL rt lv' (.ref b :: As) B out) (hbl : FrameBlind (va_Pc (.ref b :: As) B)) (hB : ∀ U : State, U.heap = H → s.WarmedH U.vm → B U) (hrc : ∃ cellB : Cell, H[b]? = some cellB ∧ cellB.vm.isStatics = false ∧ s.vm.findClass C = some cellB.cls) (hg : GoodIn lw_all (wsV own ix C y (ws_ y bytes maxL rt))) (hd : y.cls = C ∧ y.cls ≠ "java/lang/invoke/MethodHandle" ∧ y.cls ≠ "java/lang/invoke/VarHandle" ∧ (parseMethodDescriptor y.desc).map (fun d => d.parameters.length) = some n) (hR : lv' + 1 ≤ R.frames ∧ 8 + (maxL + 11) + 40 * lv' ≤ R.locals) (hls : ls.size = nL) (hn : As.length = n) (hst : stk = As.reverse ++ .ref b :: rest) (hW : 2 * (F0 m pc ls stk).monitorRoom + (rest.map fun v => v.category).sum ≤ 8) (hdg : decode cc pc = .ok (.invokevirtual ix, 3)) (hc : cells ≤ R.cells ∧ slots ≤ R.slots)
    (kk : W p l e R s m args below meth c H locs cells slots Q (F0 m (pc + 3) ls (.int out :: rest))) : W p l e R s m args below meth c H locs cells slots Q (F0 m pc ls stk) := by
  unfold jx_Ms at hM
  refine vp_callSi (W.runV (As := As) (rest := rest) (own := own) (C := C) (index := ix) ⟨hx, hb, hml, hown, hts⟩ hM (cwV n hts hg rfl rfl rfl hd hR) ⟨hbl, hrc, fun U hU hW => ⟨rfl, hB U hU hW⟩⟩ rfl hn hls hst hW hdg hc) (fun r hr => ?_)
  subst hr
  exact kk
theorem jx_callSs {out : Int32} {own : String} {y : MethodName} {bytes : ByteArray} {maxL nL lv' ix n : Nat} {rt : Option FieldType} {stk : List Value} {B : State → Prop} (hx : p.tables.exec = Jvm.exec) (hb : c.code = cc) (hml : c.maxLocals = nL) (hown : s.vm.findClass own = some m.cls) (hts : ∀ w ∈ lw_all, w.before args s = true) {As : List Value} (hM : jx_Ms l y bytes maxL rt lv' As B out) (hbl : FrameBlind (va_Pc As B)) (hB : ∀ U : State, U.heap = H → s.WarmedH U.vm → B U) (hg : GoodIn lw_all (va_wsS own ix y (ws_ y bytes maxL rt))) (hd : y.cls ≠ "java/lang/invoke/MethodHandle" ∧ y.cls ≠ "java/lang/invoke/VarHandle" ∧ (parseMethodDescriptor y.desc).map (fun d => d.parameters.length) = some n) (hR : lv' + 1 ≤ R.frames ∧ 8 + (maxL + 11) + 40 * lv' ≤ R.locals) (hls : ls.size = nL) (hn : As.length = n) (hst : stk = As.reverse ++ rest) (hW : 2 * (F0 m pc ls stk).monitorRoom + (rest.map fun v => v.category).sum ≤ 8) (hdg : decode cc pc = .ok (.invokestatic ix, 3)) (hc : cells ≤ R.cells ∧ slots ≤ R.slots)
    (kk : W p l e R s m args below meth c H locs cells slots Q (F0 m (pc + 3) ls (.int out :: rest))) : W p l e R s m args below meth c H locs cells slots Q (F0 m pc ls stk) := by
  unfold jx_Ms at hM
  refine vp_callSi (W.runS (As := As) (rest := rest) (own := own) (index := ix) ⟨hx, hb, hml, hown, hts⟩ hM (va_cwS n hts hg rfl rfl rfl hd hR) ⟨hbl, fun U hU hW => ⟨rfl, hB U hU hW⟩⟩ rfl hn hls hst hW hdg hc) (fun r hr => ?_)
  subst hr
  exact kk
theorem jx_callSn {own : String} {y : MethodName} {bytes : ByteArray} {maxL nL lv' ix n : Nat} {rt : Option FieldType} {stk : List Value} (hx : p.tables.exec = Jvm.exec) (hb : c.code = cc) (hml : c.maxLocals = nL) (hown : s.vm.findClass own = some m.cls) (hts : ∀ w ∈ lw_all, w.before args s = true) {As : List Value} (hM : Met l y (ws_ y bytes maxL rt) (jx_rm lv') (va_Pc As (fun U => jx_sSt A U U.heap)) (va_Sv (fun _ => True)) 0 0 (fun _ => False)) (hB : ∀ U : State, U.heap = H → s.WarmedH U.vm → jx_sSt A U U.heap) (hg : GoodIn lw_all (va_wsS own ix y (ws_ y bytes maxL rt))) (hd : y.cls ≠ "java/lang/invoke/MethodHandle" ∧ y.cls ≠ "java/lang/invoke/VarHandle" ∧ (parseMethodDescriptor y.desc).map (fun d => d.parameters.length) = some n) (hR : lv' + 1 ≤ R.frames ∧ 8 + (maxL + 11) + 40 * lv' ≤ R.locals) (hls : ls.size = nL) (hn : As.length = n) (hst : stk = As.reverse ++ rest) (hW : 2 * (F0 m pc ls stk).monitorRoom + (rest.map fun v => v.category).sum ≤ 8) (hdg : decode cc pc = .ok (.invokestatic ix, 3)) (hc : cells ≤ R.cells ∧ slots ≤ R.slots)
    (kk : W p l e R s m args below meth c H locs cells slots Q (F0 m (pc + 3) ls rest)) : W p l e R s m args below meth c H locs cells slots Q (F0 m pc ls stk) := by
  refine va_csv (W.runS (As := As) (rest := rest) (own := own) (index := ix) ⟨hx, hb, hml, hown, hts⟩ hM (va_cwS n hts hg rfl rfl rfl hd hR) ⟨fun b U g mk h => ⟨h.1, h.2.moved (State.WarmedH.refl U) (fun _ _ _ => rfl)⟩, fun U hU hW => ⟨rfl, hB U hU hW⟩⟩ rfl hn hls hst hW hdg hc) (fun _ => ?_)
  exact kk
end
theorem jx_coder_d : yJ3_coder.cls = RJ3 ∧ yJ3_coder.cls ≠ "java/lang/invoke/MethodHandle" ∧ yJ3_coder.cls ≠ "java/lang/invoke/VarHandle" ∧ (parseMethodDescriptor yJ3_coder.desc).map (fun d => d.parameters.length) = some 0 := by decide +kernel
theorem jx_isLatin1_d : yJ3_isLatin1.cls = RJ3 ∧ yJ3_isLatin1.cls ≠ "java/lang/invoke/MethodHandle" ∧ yJ3_isLatin1.cls ≠ "java/lang/invoke/VarHandle" ∧ (parseMethodDescriptor yJ3_isLatin1.desc).map (fun d => d.parameters.length) = some 0 := by decide +kernel
theorem jx_coder_met {l : Launch} {A : Nat → Prop} {i a : Nat} : jx_Ms l yJ3_coder cJ3_coder 1 (some .byte) 0 [.ref a] (jx_sB A i a) 0 := by
  refine jx_Ms_of (R0 := RJ3) (by decide) (Nat.le_of_ble_eq_true rfl) rfl (fun {p e s m args below meth c} hX hB => ?_)
  obtain ⟨hx, hb, hml, hown, hts, hlk, hr, hlv⟩ := hX
  obtain ⟨hi, ⟨v, h1, h2, h3, h4⟩, h5⟩ := hB
  intro ls hl
  have hl : lv_has ls 1 [(0, .ref a)] := hl
  refine va_gets hx hb h5.1 va_S.rf hown (hts _ q973) (fun _ h => h) dJ3_coder_0 ?_
  refine lv_if_eq (tgt := 13) hx hb dJ3_coder_3 rfl (fun c1 => absurd c1 (by decide)) (fun c1 => ?_)
  refine lv_aload_n hx hb dJ3_coder_6 rfl (lv_at hl 0 rfl) ?_
  refine vk_getf hx hb h2 va_S.rf hown (hts _ q2152) (fun _ h => h) dJ3_coder_7 ?_
  refine lv_goto (tgt := 14) hx hb dJ3_coder_10 rfl ?_
  exact W.zret (v := 0) hx hb hr rfl (fun t ht hW => ⟨0, rfl, rfl, ht⟩) (fun _ h => by cases h) dJ3_coder_14 hlk
theorem jx_isLatin1_met {l : Launch} {A : Nat → Prop} {i a : Nat} : jx_Ms l yJ3_isLatin1 cJ3_isLatin1 1 (some .boolean) 0 [.ref a] (jx_sB A i a) 1 := by
  refine jx_Ms_of (R0 := RJ3) (by decide) (Nat.le_of_ble_eq_true rfl) rfl (fun {p e s m args below meth c} hX hB => ?_)
  obtain ⟨hx, hb, hml, hown, hts, hlk, hr, hlv⟩ := hX
  obtain ⟨hi, ⟨v, h1, h2, h3, h4⟩, h5⟩ := hB
  intro ls hl
  have hl : lv_has ls 1 [(0, .ref a)] := hl
  refine va_gets hx hb h5.1 va_S.rf hown (hts _ q973) (fun _ h => h) dJ3_isLatin1_0 ?_
  refine lv_if_eq (tgt := 17) hx hb dJ3_isLatin1_3 rfl (fun c1 => absurd c1 (by decide)) (fun c1 => ?_)
  refine lv_aload_n hx hb dJ3_isLatin1_6 rfl (lv_at hl 0 rfl) ?_
  refine vk_getf hx hb h2 va_S.rf hown (hts _ q2152) (fun _ h => h) dJ3_isLatin1_7 ?_
  refine lv_if_ne (tgt := 17) hx hb dJ3_isLatin1_10 rfl (fun c1 => absurd rfl c1) (fun c1 => ?_)
  refine lv_iconst hx hb dJ3_isLatin1_13 jx_ki1 ?_
  refine lv_goto (tgt := 18) hx hb dJ3_isLatin1_14 rfl ?_
  exact W.zret (v := nI 1) hx hb hr rfl (fun t ht hW => ⟨nI 1, rfl, rfl, ht⟩) (fun _ h => by cases h) dJ3_isLatin1_18 hlk
theorem jx_length_met {l : Launch} {A : Nat → Prop} {i a : Nat} : jx_Ms l yJ3_length cJ3_length 1 (some .int) 1 [.ref a] (jx_sB A i a) (nI (jx_sl i)) := by
  refine jx_Ms_of (R0 := RJ3) (by decide) (Nat.le_of_ble_eq_true rfl) rfl (fun {p e s m args below meth c} hX hB => ?_)
  obtain ⟨hx, hb, hml, hown, hts, hlk, hr, hlv⟩ := hX
  have hB0 := hB
  obtain ⟨hi, ⟨v, h1, h2, h3, h4⟩, h5⟩ := hB
  intro ls hl
  have hl : lv_has ls 1 [(0, .ref a)] := hl
  refine lv_aload_n hx hb dJ3_length_0 rfl (lv_at hl 0 rfl) ?_
  refine vk_getf hx hb h3 va_S.rf hown (hts _ q2151) (fun _ h => h) dJ3_length_1 ?_
  refine va_tlen (v := nI (jx_sl i)) hx hb h4 va_S.rf rfl dJ3_length_4 ?_
  refine lv_aload_n hx hb dJ3_length_5 rfl (lv_at hl 0 rfl) ?_
  obtain ⟨cell, g1, g2, g3, g4⟩ := h1
  refine jx_callVs (As := []) (rest := [.int (nI (jx_sl i))]) (C := RJ3) (lv' := 0) hx hb hml hown hts jx_coder_met jx_sB.blind (fun U hU hW => hB0.moved hW (fun _ _ _ => by rw [hU])) ⟨cell, g1, g2, g3⟩ (lw_V q969 q970 q971 q111 q972) jx_coder_d (by rw [hlv]; decide) hl.1 rfl rfl (lv_room (Nat.le_of_ble_eq_true rfl)) dJ3_length_6 (by rw [hlv]; decide) ?_
  refine lv_ishr hx hb dJ3_length_9 ?_
  exact W.iret (v := nI (jx_sl i) >>> ((0 : Int32) &&& 31)) hx hb hr (fun t ht hW => ⟨_, rfl, sb_shr0 _, ht⟩) (fun _ h => by cases h) dJ3_length_10 hlk
theorem jx_pcheck_met {l : Launch} {x n : Int32} {v : Value} (h1 : ¬ x < 0) (h2 : x < n) (hv : v = .null ∨ ∃ q, v = .ref q) : jx_Mi l yJ5_checkIndex cJ5_checkIndex 3 (some .int) 0 [.int x, .int n, v] x := by
  refine jx_Mi_of (R0 := RJ5) (by decide) (by rcases hv with rfl | ⟨q, rfl⟩ <;> exact Nat.le_of_ble_eq_true rfl) rfl (fun {p e s m args below meth c} hX => ?_)
  obtain ⟨hx, hb, hml, hown, hts, hlk, hr, hlv⟩ := hX
  intro ls hl
  have hl : lv_has ls 3 [(0, .int x), (1, .int n)] := ⟨hl.1, hl.2.1, fun q hq => hl.2.2 q (by
    simp only [List.mem_cons, List.not_mem_nil, or_false] at hq
    rcases hq with rfl | rfl
    · exact List.mem_cons_self
    · exact List.mem_cons_of_mem _ List.mem_cons_self)⟩
  refine lv_iload_n hx hb dJ5_checkIndex_0 rfl (lv_at hl 0 rfl) ?_
  refine lv_if_lt (tgt := 9) hx hb dJ5_checkIndex_1 rfl (fun c1 => absurd c1 h1) (fun c1 => ?_)
  refine lv_iload_n hx hb dJ5_checkIndex_4 rfl (lv_at hl 0 rfl) ?_
  refine lv_iload_n hx hb dJ5_checkIndex_5 rfl (lv_at hl 1 rfl) ?_
  refine lv_icmp_lt (tgt := 16) hx hb dJ5_checkIndex_6 rfl (fun c1 => ?_) (fun c1 => absurd h2 c1)
  refine lv_iload_n hx hb dJ5_checkIndex_16 rfl (lv_at hl 0 rfl) ?_
  exact W.iret (v := x) hx hb hr (fun t ht hW => ⟨x, rfl, rfl, ht⟩) (fun _ h => by cases h) dJ5_checkIndex_17 hlk
/-- String.checkIndex(x, n) where 0 ≤ x < n -/
theorem jx_check_met {l : Launch} {A : Nat → Prop} {x n : Int32} (h1 : ¬ x < 0) (h2 : x < n) : Met l yJ3_checkIndex (ws_ yJ3_checkIndex cJ3_checkIndex 2 none) (jx_rm 1) (va_Pc [.int x, .int n] (fun U => jx_sSt A U U.heap)) (va_Sv (fun _ => True)) 0 0 (fun _ => False) := by
  refine Met.ofW (cc := cJ3_checkIndex) (maxL := 2) (ret := none) (by decide) rfl ?_
  intro p e s m args below meth c s₁ B hml hv
  obtain ⟨rfl, h5⟩ := hv
  have hts := atoms_spec (ws := ws_ yJ3_checkIndex cJ3_checkIndex 2 none) B.pre
  have hts : ∀ w ∈ lw_all, w.before _ s = true := fun w h => hts w (List.mem_cons_of_mem _ h)
  have hown : s.vm.findClass RJ3 = some m.cls := findClass_of_methodNamed B.named
  have hx := B.exec
  have hb := B.bytes
  have hr := B.returns
  have hlk := B.notSynchronized
  have hl := lv_entry [.int x, .int n] (n := 2) (Nat.le_of_ble_eq_true rfl)
  rw [lg_entry_eq]
  generalize (lg_sl ([.int x, .int n]) ++ List.replicate (2 - (lg_sl ([.int x, .int n])).length) Slot.unset).toArray = ls at hl ⊢
  have hl : lv_has ls 2 [(0, .int x), (1, .int n)] := hl
  refine lv_iload_n hx hb dJ3_checkIndex_0 rfl (lv_at hl 0 rfl) ?_
  refine lv_iload_n hx hb dJ3_checkIndex_1 rfl (lv_at hl 1 rfl) ?_
  have key : ∀ v : Value, (v = .null ∨ ∃ q, v = .ref q) → va_Z "jdk/internal/util/Preconditions" "SIOOBE_FORMATTER" "Ljava/util/function/BiFunction;" v A s s.heap → W p l e (headSpec (ws_ yJ3_checkIndex cJ3_checkIndex 2 none) (jx_rm 1)).room s m ([.int x, .int n] : List Value).toArray below meth c s.heap [] 0 0 (MQ below (va_Sv (fun _ => True)) ([.int x, .int n] : List Value).toArray s 0 0 (fun _ => False)) (F0 m (0 + 1 + 1) ls [.int n, .int x]) := by
    intro v hv hZ
    refine va_gets hx hb hZ va_S.rf hown (hts _ q989) (fun _ h => h) dJ3_checkIndex_2 ?_
    refine jx_callSi (As := [.int x, .int n, v]) (rest := []) (lv' := 0) hx hb hml hown hts (jx_pcheck_met h1 h2 hv) (lw_S q991 q992 q113 q993) (n := 3) (by decide +kernel) (by decide) hl.1 rfl rfl (lv_room (Nat.le_of_ble_eq_true rfl)) dJ3_checkIndex_5 (by decide) ?_
    refine lv_pop hx hb dJ3_checkIndex_8 rfl ?_
    exact W.vret hx hb hr (fun t ht hW => ⟨rfl, trivial, ht⟩) (fun _ h => by cases h) dJ3_checkIndex_9 hlk
  rcases h5.2 with h | ⟨t, h⟩
  · exact key _ (Or.inl rfl) h
  · exact key _ (Or.inr ⟨t, rfl⟩) h
theorem jx_sc_nar : ∀ n, n < 128 → narrow .char (.int (((nI n) &&& (nI 255)).toUInt32 % 65536).toInt32) = .int (nI n) ∧ (((nI n) &&& (nI 255)).toUInt32 % 65536).toInt32 = nI n := by decide +kernel
theorem jx_tx_lt : ∀ i, i < 14 → ∀ j, j < 8 → (jx_tx i).getD j 0 < 128 := by decide +kernel
theorem jx_sl_lt : ∀ i, i < 14 → jx_sl i < 8 := by decide +kernel
/-- StringLatin1.charAt over a constant's bytes -/
theorem jx_lcharAt_met {l : Launch} {A : Nat → Prop} {i v j : Nat} {x : Int32} (hi : i < 14) (ej : j = x.toNatClampNeg) (hin : vp_in x (jx_sl i)) : jx_Ms l yJ4_charAt cJ4_charAt 2 (some .char) 2 [.ref v, .int x] (fun U => va_T .byte v (jx_sl i) (fun j => .int (nI ((jx_tx i).getD j 0))) A U U.heap ∧ jx_sSt A U U.heap) (jx_sc i j) := by
  refine jx_Ms_of (R0 := RJ4) (by decide) (Nat.le_of_ble_eq_true rfl) rfl (fun {p e s m args below meth c} hX hB => ?_)
  obtain ⟨hx, hb, hml, hown, hts, hlk, hr, hlv⟩ := hX
  obtain ⟨h4, h5⟩ := hB
  intro ls hl
  have hl : lv_has ls 2 [(0, .ref v), (1, .int x)] := hl
  have hlt : x.toNatClampNeg < jx_sl i := Nat.not_le.mp fun q => hin (Or.inr q)
  have hL := jx_sl_lt i hi
  obtain ⟨k, hk, ek⟩ := vp_in_of hin (by omega)
  refine lv_iload_n hx hb dJ4_charAt_0 rfl (lv_at hl 1 rfl) ?_
  refine lv_aload_n hx hb dJ4_charAt_1 rfl (lv_at hl 0 rfl) ?_
  refine va_tlen (v := nI (jx_sl i)) hx hb h4 va_S.rf rfl dJ4_charAt_2 ?_
  refine jx_callSn (As := [.int x, .int (nI (jx_sl i))]) (rest := []) (lv' := 1) hx hb hml hown hts (jx_check_met (A := A) (fun q => hin (Or.inl q)) (by rw [ek]; exact nI_lt hk (by omega))) (fun U hU hW => h5.moved hW (fun _ _ _ => by rw [hU])) (lw_S q986 q987 q111 q988) (n := 2) (by decide +kernel) (by rw [hlv]; decide) hl.1 rfl rfl (lv_room (Nat.le_of_ble_eq_true rfl)) dJ4_charAt_3 (by rw [hlv]; decide) ?_
  refine lv_aload_n hx hb dJ4_charAt_6 rfl (lv_at hl 0 rfl) ?_
  refine lv_iload_n hx hb dJ4_charAt_7 rfl (lv_at hl 1 rfl) ?_
  refine va_tb (v := .int (nI ((jx_tx i).getD j 0))) hx hb h4 va_S.rf hin (by rw [← ej]) dJ4_charAt_8 ?_
  refine lv_sipush hx hb dJ4_charAt_9 jx_ks255 ?_
  refine lv_iand hx hb dJ4_charAt_12 ?_
  refine lv_i2c (v := nI ((jx_tx i).getD j 0)) hx hb dJ4_charAt_13 (jx_sc_nar _ (jx_tx_lt i hi j (by omega))).2 ?_
  exact W.zret (v := jx_sc i j) hx hb hr (by have h := (jx_sc_nar _ (jx_tx_lt i hi j (by omega))).1; rw [(jx_sc_nar _ (jx_tx_lt i hi j (by omega))).2] at h; exact h) (fun t ht hW => ⟨_, rfl, rfl, ht⟩) (fun _ h => by cases h) dJ4_charAt_14 hlk
theorem jx_charAt_met {l : Launch} {A : Nat → Prop} {i a j : Nat} {x : Int32} (ej : j = x.toNatClampNeg) (hin : vp_in x (jx_sl i)) : jx_Ms l yJ3_charAt cJ3_charAt 2 (some .char) 3 [.ref a, .int x] (jx_sB A i a) (jx_sc i j) := by
  refine jx_Ms_of (R0 := RJ3) (by decide) (Nat.le_of_ble_eq_true rfl) rfl (fun {p e s m args below meth c} hX hB => ?_)
  obtain ⟨hx, hb, hml, hown, hts, hlk, hr, hlv⟩ := hX
  have hB0 := hB
  obtain ⟨hi, ⟨v, h1, h2, h3, h4⟩, h5⟩ := hB
  intro ls hl
  have hl : lv_has ls 2 [(0, .ref a), (1, .int x)] := hl
  have hlt : x.toNatClampNeg < jx_sl i := Nat.not_le.mp fun q => hin (Or.inr q)
  have hL := jx_sl_lt i hi
  refine lv_aload_n hx hb dJ3_charAt_0 rfl (lv_at hl 0 rfl) ?_
  obtain ⟨cell, g1, g2, g3, g4⟩ := h1
  refine jx_callVs (As := []) (rest := []) (C := RJ3) (lv' := 0) hx hb hml hown hts jx_isLatin1_met jx_sB.blind (fun U hU hW => hB0.moved hW (fun _ _ _ => by rw [hU])) ⟨cell, g1, g2, g3⟩ (lw_V q979 q980 q981 q111 q982) jx_isLatin1_d (by rw [hlv]; decide) hl.1 rfl rfl (lv_room (Nat.le_of_ble_eq_true rfl)) dJ3_charAt_1 (by rw [hlv]; decide) ?_
  refine lv_if_eq (tgt := 16) hx hb dJ3_charAt_4 rfl (fun c1 => absurd c1 (by decide)) (fun c1 => ?_)
  refine lv_aload_n hx hb dJ3_charAt_7 rfl (lv_at hl 0 rfl) ?_
  refine vk_getf hx hb h3 va_S.rf hown (hts _ q2151) (fun _ h => h) dJ3_charAt_8 ?_
  refine lv_iload_n hx hb dJ3_charAt_11 rfl (lv_at hl 1 rfl) ?_
  refine jx_callSs (As := [.ref v, .int x]) (rest := []) (lv' := 2) hx hb hml hown hts (jx_lcharAt_met (A := A) (i := i) hi ej hin) (fun b U g mk h => ⟨h.1, va_T.moved (u := U) (U := U.calling g mk b) (Vm.Alike.refl U.vm) h.2.1, h.2.2.moved (State.WarmedH.refl U) (fun _ _ _ => rfl)⟩) (fun U hU hW => ⟨(va_T.moved hW.alike h4).kept (fun _ _ _ => by rw [hU]), h5.moved hW (fun _ _ _ => by rw [hU])⟩) (lw_S q983 q984 q112 q985) (n := 2) (by decide +kernel) (by rw [hlv]; decide) hl.1 rfl rfl (lv_room (Nat.le_of_ble_eq_true rfl)) dJ3_charAt_12 (by rw [hlv]; decide) ?_
  exact W.zret (v := jx_sc i j) hx hb hr (by have h := (jx_sc_nar _ (jx_tx_lt i hi j (by omega))).1; rw [(jx_sc_nar _ (jx_tx_lt i hi j (by omega))).2] at h; exact h) (fun t ht hW => ⟨_, rfl, rfl, ht⟩) (fun _ h => by cases h) dJ3_charAt_15 hlk
section
variable {p : Program} {l : Launch} {e : Env} {R : Room} {s : State} {m : MethodId} {args : Array Value} {below : List Frame} {meth : Method} {c : Code} {H : Heap} {locs : List Loc} {Q : State → Prop} {pc : Nat} {ls : Array Slot} {rest : List Value} {A : Nat → Prop} {sa : Nat → Nat} {cc : ByteArray}
theorem jm_ldcS {i ix : Nat} {tx : String} (hx : p.tables.exec = Jvm.exec) (hb : c.code = cc) (hown : s.vm.findClass RX6 = some m.cls) (hZ : jm_Z sa A s) (hi : i < 14) (hix : jm_sx i = ix) (htx : jx_st.getD i "" = tx) (hdg : decode cc pc = .ok (.ldc ix, 2))
    (kk : W p l e R s m args below meth c H locs 0 0 Q (F0 m (pc + 2) ls (.ref (sa i) :: rest))) : W p l e R s m args below meth c H locs 0 0 Q (F0 m pc ls rest) := by
  subst hix
  subst htx
  exact va_ldcS hx hb hown (hZ.1 i hi).1 hdg kk
theorem jm_slen {i nL lv : Nat} (hx : p.tables.exec = Jvm.exec) (hb : c.code = cc) (hml : c.maxLocals = nL) (hown : s.vm.findClass RX6 = some m.cls) (hts : ∀ w ∈ lw_all, w.before args s = true) (hlv : R = jx_rm lv) (hZ : jm_Z sa A s) (hS : va_S A s.heap H locs) (hls : ls.size = nL) (hW : 2 * (F0 m pc ls (.ref (sa i) :: rest)).monitorRoom + (rest.map fun v => v.category).sum ≤ 8) (hi : i < 14) (h6 : 2 ≤ lv) (hdg : decode cc pc = .ok (.invokevirtual 143, 3))
    (kk : W p l e R s m args below meth c H locs 0 0 Q (F0 m (pc + 3) ls (.int (nI (jx_sl i)) :: rest))) : W p l e R s m args below meth c H locs 0 0 Q (F0 m pc ls (.ref (sa i) :: rest)) := by
  have hB : ∀ U : State, U.heap = H → s.WarmedH U.vm → jx_sB A i (sa i) U := fun U hU hW => jx_sB.moved (s := s) hW (fun a h1 h2 => by rw [hU]; exact hS.2.1 a h1 h2) ⟨hi, (hZ.1 i hi).2, hZ.2⟩
  obtain ⟨v, ⟨cell, g1, g2, g3, g4⟩, -⟩ := (hZ.1 i hi).2
  refine jx_callVs (As := []) (rest := rest) (C := RJ3) (lv' := 1) hx hb hml hown hts jx_length_met jx_sB.blind hB ⟨cell, by rw [hS.2.1 _ (Array.getElem?_eq_some_iff.mp g1).1 g4]; exact g1, g2, g3⟩ (lw_V q1745 q966 q967 q111 q968) (n := 0) (by decide +kernel) (by rw [hlv]; exact ⟨h6, by show 8 + (1 + 11) + 40 * 1 ≤ 40 * lv; omega⟩) hls rfl rfl hW hdg ⟨Nat.zero_le _, Nat.zero_le _⟩ kk
theorem jm_schar {i nL lv j : Nat} {x : Int32} (hx : p.tables.exec = Jvm.exec) (hb : c.code = cc) (hml : c.maxLocals = nL) (hown : s.vm.findClass RX6 = some m.cls) (hts : ∀ w ∈ lw_all, w.before args s = true) (hlv : R = jx_rm lv) (hZ : jm_Z sa A s) (hS : va_S A s.heap H locs) (hls : ls.size = nL) (hW : 2 * (F0 m pc ls (.int x :: .ref (sa i) :: rest)).monitorRoom + (rest.map fun v => v.category).sum ≤ 8) (hi : i < 14) (h6 : 4 ≤ lv) (ej : j = x.toNatClampNeg) (hin : vp_in x (jx_sl i)) (hdg : decode cc pc = .ok (.invokevirtual 148, 3))
    (kk : W p l e R s m args below meth c H locs 0 0 Q (F0 m (pc + 3) ls (.int (jx_sc i j) :: rest))) : W p l e R s m args below meth c H locs 0 0 Q (F0 m pc ls (.int x :: .ref (sa i) :: rest)) := by
  have hB : ∀ U : State, U.heap = H → s.WarmedH U.vm → jx_sB A i (sa i) U := fun U hU hW => jx_sB.moved (s := s) hW (fun a h1 h2 => by rw [hU]; exact hS.2.1 a h1 h2) ⟨hi, (hZ.1 i hi).2, hZ.2⟩
  obtain ⟨v, ⟨cell, g1, g2, g3, g4⟩, -⟩ := (hZ.1 i hi).2
  refine jx_callVs (As := [.int x]) (rest := rest) (C := RJ3) (lv' := 3) hx hb hml hown hts (jx_charAt_met ej hin) jx_sB.blind hB ⟨cell, by rw [hS.2.1 _ (Array.getElem?_eq_some_iff.mp g1).1 g4]; exact g1, g2, g3⟩ (lw_V q1746 q976 q977 q111 q978) (n := 1) (by decide +kernel) (by rw [hlv]; exact ⟨h6, by show 8 + (2 + 11) + 40 * 3 ≤ 40 * lv; omega⟩) hls rfl rfl hW hdg ⟨Nat.zero_le _, Nat.zero_le _⟩ kk
end

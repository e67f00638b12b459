set_option maxRecDepth 100000
set_option maxHeartbeats 4000000
section
variable {p : Program} {l : Launch} {e : Env} {R : Room} {s : State} {m : MethodId} {args : Array Value} {below : List Frame} {meth : Method} {c : Code} {A : Nat → Prop} {D : va_G} {E : jf_E} {fo : Nat → Nat → Option Nat} {pl : va_W} {lv : Nat} {H : Heap} {locs : List Loc} {Q : State → Prop} {pc : Nat} {ls : Array Slot} {rest : List Value} {cc : ByteArray} {S : jf_S}
theorem jo8_place_d : yX8_place.cls = RX8 ∧ yX8_place.cls ≠ "java/lang/invoke/MethodHandle" ∧ yX8_place.cls ≠ "java/lang/invoke/VarHandle" ∧ (parseMethodDescriptor yX8_place.desc).map (fun d => d.parameters.length) = some 0 := by decide +kernel
theorem jo8_place_ok {out : Int32 × jf_S} (hX : jf_Ok RX8 p R s m args meth c A D E cX8_place 1 (some .int) 0) (F : Nat) (x0 : jo_R) {x0a : Nat} (S : jf_S) (h : jo8_place F x0 S = some out) : jf_J p l e R s m args below meth c A D E fo pl 1 (jf_Qi below args s A D E fo pl out) 0 [(0, .ref x0a)] [] S := by
  intro H locs ls hP hS hl
  have hX0 := hX
  obtain ⟨hx, hb, hml, hown, hts, hlk, hr, hlv, hV, het⟩ := hX0
  unfold jo8_place at h
  refine lv_iconst hx hb dX8_place_0 jx_kim1 ?_
  exact jf_iret hx hb hr hlk hV hP hS h dX8_place_1
theorem jo8_place_met {l : Launch} {D : va_G} {E : jf_E} {A : Nat → Prop} {fo : Nat → Nat → Option Nat} {pl : va_W} {F : Nat} {x0 : jo_R} {x0a : Nat} {S : jf_S} {out : Int32 × jf_S} (h : jo8_place F x0 S = some out) : jf_Mi l D E A fo pl yX8_place cX8_place 1 (some .int) 0 [.ref x0a] S out :=
  jf_Mi_of (own := RX8) ⟨by decide, rfl, Nat.le_of_ble_eq_true rfl⟩ (fun hX => jo8_place_ok hX F x0 S h)
theorem jo10_place_d : yX10_place.cls = RX10 ∧ yX10_place.cls ≠ "java/lang/invoke/MethodHandle" ∧ yX10_place.cls ≠ "java/lang/invoke/VarHandle" ∧ (parseMethodDescriptor yX10_place.desc).map (fun d => d.parameters.length) = some 0 := by decide +kernel
theorem jo10_place_ok {out : Int32 × jf_S} (hX : jf_Ok RX10 p R s m args meth c A D E cX10_place 1 (some .int) 0) (F : Nat) (x0 : jo_R) {x0a : Nat} (x0h : jo_m1 pl x0a x0) (S : jf_S) (h : jo10_place F x0 S = some out) : jf_J p l e R s m args below meth c A D E fo pl 1 (jf_Qi below args s A D E fo pl out) 0 [(0, .ref x0a)] [] S := by
  intro H locs ls hP hS hl
  have hX0 := hX
  obtain ⟨hx, hb, hml, hown, hts, hlk, hr, hlv, hV, het⟩ := hX0
  unfold jo10_place at h
  refine lv_aload_n hx hb dX10_place_0 rfl (lv_at hl 0 rfl) ?_
  obtain ⟨q1, hq1⟩ := jf_pool (E := E) (S := S) (fo := fo) x0h
  refine jf_get hx hb hts in_X10 hown hV hP (ci := 7) (k := 2) hq1 rfl (by decide) (hts _ q1098) rfl rfl dX10_place_1 ?_
  exact jf_iret hx hb hr hlk hV hP hS h dX10_place_4
theorem jo10_place_met {l : Launch} {D : va_G} {E : jf_E} {A : Nat → Prop} {fo : Nat → Nat → Option Nat} {pl : va_W} {F : Nat} {x0 : jo_R} {x0a : Nat} (x0h : jo_m1 pl x0a x0) {S : jf_S} {out : Int32 × jf_S} (h : jo10_place F x0 S = some out) : jf_Mi l D E A fo pl yX10_place cX10_place 1 (some .int) 0 [.ref x0a] S out :=
  jf_Mi_of (own := RX10) ⟨by decide, rfl, Nat.le_of_ble_eq_true rfl⟩ (fun hX => jo10_place_ok hX F x0 x0h S h)
theorem jo11_place_d : yX11_place.cls = RX11 ∧ yX11_place.cls ≠ "java/lang/invoke/MethodHandle" ∧ yX11_place.cls ≠ "java/lang/invoke/VarHandle" ∧ (parseMethodDescriptor yX11_place.desc).map (fun d => d.parameters.length) = some 0 := by decide +kernel
theorem jo11_place_ok {out : Int32 × jf_S} (hX : jf_Ok RX11 p R s m args meth c A D E cX11_place 1 (some .int) 0) (F : Nat) (x0 : jo_R) {x0a : Nat} (x0h : jo_m2 pl x0a x0) (S : jf_S) (h : jo11_place F x0 S = some out) : jf_J p l e R s m args below meth c A D E fo pl 1 (jf_Qi below args s A D E fo pl out) 0 [(0, .ref x0a)] [] S := by
  intro H locs ls hP hS hl
  have hX0 := hX
  obtain ⟨hx, hb, hml, hown, hts, hlk, hr, hlv, hV, het⟩ := hX0
  unfold jo11_place at h
  refine lv_aload_n hx hb dX11_place_0 rfl (lv_at hl 0 rfl) ?_
  obtain ⟨q1, hq1⟩ := jf_pool (E := E) (S := S) (fo := fo) x0h
  refine jf_get hx hb hts in_X11 hown hV hP (ci := 8) (k := 1) hq1 rfl (by decide) (hts _ q1112) rfl rfl dX11_place_1 ?_
  exact jf_iret hx hb hr hlk hV hP hS h dX11_place_4
theorem jo11_place_met {l : Launch} {D : va_G} {E : jf_E} {A : Nat → Prop} {fo : Nat → Nat → Option Nat} {pl : va_W} {F : Nat} {x0 : jo_R} {x0a : Nat} (x0h : jo_m2 pl x0a x0) {S : jf_S} {out : Int32 × jf_S} (h : jo11_place F x0 S = some out) : jf_Mi l D E A fo pl yX11_place cX11_place 1 (some .int) 0 [.ref x0a] S out :=
  jf_Mi_of (own := RX11) ⟨by decide, rfl, Nat.le_of_ble_eq_true rfl⟩ (fun hX => jo11_place_ok hX F x0 x0h S h)
theorem jo12_place_d : yX12_place.cls = RX12 ∧ yX12_place.cls ≠ "java/lang/invoke/MethodHandle" ∧ yX12_place.cls ≠ "java/lang/invoke/VarHandle" ∧ (parseMethodDescriptor yX12_place.desc).map (fun d => d.parameters.length) = some 0 := by decide +kernel
theorem jo12_place_ok {out : Int32 × jf_S} (hX : jf_Ok RX12 p R s m args meth c A D E cX12_place 1 (some .int) 0) (F : Nat) (x0 : jo_R) {x0a : Nat} (x0h : jo_m3 pl x0a x0) (S : jf_S) (h : jo12_place F x0 S = some out) : jf_J p l e R s m args below meth c A D E fo pl 1 (jf_Qi below args s A D E fo pl out) 0 [(0, .ref x0a)] [] S := by
  intro H locs ls hP hS hl
  have hX0 := hX
  obtain ⟨hx, hb, hml, hown, hts, hlk, hr, hlv, hV, het⟩ := hX0
  unfold jo12_place at h
  refine lv_aload_n hx hb dX12_place_0 rfl (lv_at hl 0 rfl) ?_
  obtain ⟨q1, bq1, dq1, hq1, aq1, cq1⟩ := jo_f3 (E := E) (S := S) (fo := fo) x0h
  refine jf_get hx hb hts in_X12 hown hV hP (ci := 9) (k := 4) hq1 rfl (by decide) (hts _ q1133) rfl rfl dX12_place_1 ?_
  exact jf_iret hx hb hr hlk hV hP hS h dX12_place_4
theorem jo12_place_met {l : Launch} {D : va_G} {E : jf_E} {A : Nat → Prop} {fo : Nat → Nat → Option Nat} {pl : va_W} {F : Nat} {x0 : jo_R} {x0a : Nat} (x0h : jo_m3 pl x0a x0) {S : jf_S} {out : Int32 × jf_S} (h : jo12_place F x0 S = some out) : jf_Mi l D E A fo pl yX12_place cX12_place 1 (some .int) 0 [.ref x0a] S out :=
  jf_Mi_of (own := RX12) ⟨by decide, rfl, Nat.le_of_ble_eq_true rfl⟩ (fun hX => jo12_place_ok hX F x0 x0h S h)
theorem jo14_place_d : yX14_place.cls = RX14 ∧ yX14_place.cls ≠ "java/lang/invoke/MethodHandle" ∧ yX14_place.cls ≠ "java/lang/invoke/VarHandle" ∧ (parseMethodDescriptor yX14_place.desc).map (fun d => d.parameters.length) = some 0 := by decide +kernel
theorem jo14_place_ok {out : Int32 × jf_S} (hX : jf_Ok RX14 p R s m args meth c A D E cX14_place 1 (some .int) 0) (F : Nat) (x0 : jo_R) {x0a : Nat} (x0h : jo_m5 pl x0a x0) (S : jf_S) (h : jo14_place F x0 S = some out) : jf_J p l e R s m args below meth c A D E fo pl 1 (jf_Qi below args s A D E fo pl out) 0 [(0, .ref x0a)] [] S := by
  intro H locs ls hP hS hl
  have hX0 := hX
  obtain ⟨hx, hb, hml, hown, hts, hlk, hr, hlv, hV, het⟩ := hX0
  unfold jo14_place at h
  refine lv_aload_n hx hb dX14_place_0 rfl (lv_at hl 0 rfl) ?_
  obtain ⟨q1, hq1⟩ := jf_pool (E := E) (S := S) (fo := fo) x0h
  refine jf_get hx hb hts in_X14 hown hV hP (ci := 11) (k := 1) hq1 rfl (by decide) (hts _ q1170) rfl rfl dX14_place_1 ?_
  exact jf_iret hx hb hr hlk hV hP hS h dX14_place_4
theorem jo14_place_met {l : Launch} {D : va_G} {E : jf_E} {A : Nat → Prop} {fo : Nat → Nat → Option Nat} {pl : va_W} {F : Nat} {x0 : jo_R} {x0a : Nat} (x0h : jo_m5 pl x0a x0) {S : jf_S} {out : Int32 × jf_S} (h : jo14_place F x0 S = some out) : jf_Mi l D E A fo pl yX14_place cX14_place 1 (some .int) 0 [.ref x0a] S out :=
  jf_Mi_of (own := RX14) ⟨by decide, rfl, Nat.le_of_ble_eq_true rfl⟩ (fun hX => jo14_place_ok hX F x0 x0h S h)
theorem jv_place_X1 {F nL lv a : Nat} {r : jo_R}  {out : Int32 × jf_S} {stk : List Value} (hx : p.tables.exec = Jvm.exec) (hb : c.code = cc) (hml : c.maxLocals = nL) (hown : s.vm.findClass RX1 = some m.cls) (hts : ∀ w ∈ lw_all, w.before args s = true) (hlv : jx_hr R lv) (hV : jf_V D E A s) (hi : jo_Is pl a r) (e1 : jv_place F r  S = some out) (h1 : 0 + 1 ≤ lv) (hP : jf_P D E A S fo pl H) (hS : va_S A s.heap H locs) (hls : ls.size = nL) (_ : (1 : Nat) = 1) (hst : stk = ([] : List Value).reverse ++ .ref a :: rest) (hW : 2 * (F0 m pc ls stk).monitorRoom + (rest.map fun v => v.category).sum ≤ 8) (hdg : decode cc pc = .ok (.invokevirtual 144, 3))
    (kk : ∀ (H : Heap) (locs : List Loc), jf_P D E A out.2 fo pl H → va_S A s.heap H locs → W p l e R s m args below meth c H locs 0 0 Q (F0 m (pc + 3) ls (.int out.1 :: rest))) : W p l e R s m args below meth c H locs 0 0 Q (F0 m pc ls stk) := by
  obtain ⟨hv1, hv2⟩ := hlv
  rcases hi with ⟨e0, h0⟩ | ⟨e0, h0⟩ | ⟨e0, h0⟩ | ⟨e0, h0⟩ | ⟨e0, h0⟩ | ⟨e0, h0⟩ | ⟨e0, h0⟩ | ⟨e0, h0⟩ | ⟨e0, h0⟩ | ⟨e0, h0⟩
  · rw [jv_place, if_pos e0] at e1
    obtain ⟨q0, _, _, hq, -, -⟩ := jo_f0 (E := E) (S := S) (fo := fo) h0
    exact jf_vcallI hx hb hml hown hts hV (jo8_place_met (x0a := a) e1) (va_cwO (x := ⟨"JumpFence$Order", "place", "()I"⟩) (owner := "JumpFence$Order") 0 hts (jf_lwO q1297 q831 q830 q847 q830 q116 q850) rfl rfl rfl q850 (by decide +kernel) ⟨by show 0 + 1 ≤ R.frames; omega, by show 8 + (1 + 11) + 40 * 0 ≤ R.locals; omega⟩) hP hS (ci := 6) hq rfl hls rfl hst hW hdg kk
  · rw [jv_place, if_neg (by rw [e0]; decide), if_pos e0] at e1
    obtain ⟨q0, hq⟩ := jf_pool (E := E) (S := S) (fo := fo) h0
    exact jf_vcallI hx hb hml hown hts hV (jo10_place_met h0 e1) (va_cwO (x := ⟨"JumpFence$Order", "place", "()I"⟩) (owner := "JumpFence$Order") 0 hts (jf_lwO q1297 q831 q830 q844 q845 q118 q846) rfl rfl rfl q850 (by decide +kernel) ⟨by show 0 + 1 ≤ R.frames; omega, by show 8 + (1 + 11) + 40 * 0 ≤ R.locals; omega⟩) hP hS (ci := 7) hq rfl hls rfl hst hW hdg kk
  · rw [jv_place, if_neg (by rw [e0]; decide), if_neg (by rw [e0]; decide), if_pos e0] at e1
    obtain ⟨q0, hq⟩ := jf_pool (E := E) (S := S) (fo := fo) h0
    exact jf_vcallI hx hb hml hown hts hV (jo11_place_met h0 e1) (va_cwO (x := ⟨"JumpFence$Order", "place", "()I"⟩) (owner := "JumpFence$Order") 0 hts (jf_lwO q1297 q831 q830 q841 q842 q119 q843) rfl rfl rfl q850 (by decide +kernel) ⟨by show 0 + 1 ≤ R.frames; omega, by show 8 + (1 + 11) + 40 * 0 ≤ R.locals; omega⟩) hP hS (ci := 8) hq rfl hls rfl hst hW hdg kk
  · rw [jv_place, if_neg (by rw [e0]; decide), if_neg (by rw [e0]; decide), if_neg (by rw [e0]; decide), if_pos e0] at e1
    obtain ⟨q0, _, _, hq, -, -⟩ := jo_f3 (E := E) (S := S) (fo := fo) h0
    exact jf_vcallI hx hb hml hown hts hV (jo12_place_met h0 e1) (va_cwO (x := ⟨"JumpFence$Order", "place", "()I"⟩) (owner := "JumpFence$Order") 0 hts (jf_lwO q1297 q831 q830 q838 q839 q120 q840) rfl rfl rfl q850 (by decide +kernel) ⟨by show 0 + 1 ≤ R.frames; omega, by show 8 + (1 + 11) + 40 * 0 ≤ R.locals; omega⟩) hP hS (ci := 9) hq rfl hls rfl hst hW hdg kk
  · rw [jv_place, if_neg (by rw [e0]; decide), if_neg (by rw [e0]; decide), if_neg (by rw [e0]; decide), if_neg (by rw [e0]; decide), if_pos e0] at e1
    obtain ⟨q0, hq⟩ := jf_pool (E := E) (S := S) (fo := fo) h0
    exact jf_vcallI hx hb hml hown hts hV (jo8_place_met (x0a := a) e1) (va_cwO (x := ⟨"JumpFence$Order", "place", "()I"⟩) (owner := "JumpFence$Order") 0 hts (jf_lwO q1297 q831 q830 q849 q830 q116 q850) rfl rfl rfl q850 (by decide +kernel) ⟨by show 0 + 1 ≤ R.frames; omega, by show 8 + (1 + 11) + 40 * 0 ≤ R.locals; omega⟩) hP hS (ci := 10) hq rfl hls rfl hst hW hdg kk
  · rw [jv_place, if_neg (by rw [e0]; decide), if_neg (by rw [e0]; decide), if_neg (by rw [e0]; decide), if_neg (by rw [e0]; decide), if_neg (by rw [e0]; decide), if_pos e0] at e1
    obtain ⟨q0, hq⟩ := jf_pool (E := E) (S := S) (fo := fo) h0
    exact jf_vcallI hx hb hml hown hts hV (jo14_place_met h0 e1) (va_cwO (x := ⟨"JumpFence$Order", "place", "()I"⟩) (owner := "JumpFence$Order") 0 hts (jf_lwO q1297 q831 q830 q834 q835 q122 q836) rfl rfl rfl q850 (by decide +kernel) ⟨by show 0 + 1 ≤ R.frames; omega, by show 8 + (1 + 11) + 40 * 0 ≤ R.locals; omega⟩) hP hS (ci := 11) hq rfl hls rfl hst hW hdg kk
  · rw [jv_place, if_neg (by rw [e0]; decide), if_neg (by rw [e0]; decide), if_neg (by rw [e0]; decide), if_neg (by rw [e0]; decide), if_neg (by rw [e0]; decide), if_neg (by rw [e0]; decide), if_pos e0] at e1
    obtain ⟨q0, hq⟩ := jf_pool (E := E) (S := S) (fo := fo) h0
    exact jf_vcallI hx hb hml hown hts hV (jo8_place_met (x0a := a) e1) (va_cwO (x := ⟨"JumpFence$Order", "place", "()I"⟩) (owner := "JumpFence$Order") 0 hts (jf_lwO q1297 q831 q830 q833 q830 q116 q850) rfl rfl rfl q850 (by decide +kernel) ⟨by show 0 + 1 ≤ R.frames; omega, by show 8 + (1 + 11) + 40 * 0 ≤ R.locals; omega⟩) hP hS (ci := 12) hq rfl hls rfl hst hW hdg kk
  · rw [jv_place, if_neg (by rw [e0]; decide), if_neg (by rw [e0]; decide), if_neg (by rw [e0]; decide), if_neg (by rw [e0]; decide), if_neg (by rw [e0]; decide), if_neg (by rw [e0]; decide), if_neg (by rw [e0]; decide), if_pos e0] at e1
    obtain ⟨q0, hq⟩ := jf_pool (E := E) (S := S) (fo := fo) h0
    exact jf_vcallI hx hb hml hown hts hV (jo8_place_met (x0a := a) e1) (va_cwO (x := ⟨"JumpFence$Order", "place", "()I"⟩) (owner := "JumpFence$Order") 0 hts (jf_lwO q1297 q831 q830 q832 q830 q116 q850) rfl rfl rfl q850 (by decide +kernel) ⟨by show 0 + 1 ≤ R.frames; omega, by show 8 + (1 + 11) + 40 * 0 ≤ R.locals; omega⟩) hP hS (ci := 13) hq rfl hls rfl hst hW hdg kk
  · rw [jv_place, if_neg (by rw [e0]; decide), if_neg (by rw [e0]; decide), if_neg (by rw [e0]; decide), if_neg (by rw [e0]; decide), if_neg (by rw [e0]; decide), if_neg (by rw [e0]; decide), if_neg (by rw [e0]; decide), if_neg (by rw [e0]; decide), if_pos e0] at e1
    obtain ⟨q0, _, hq, -⟩ := jo_f8 (E := E) (S := S) (fo := fo) h0
    exact jf_vcallI hx hb hml hown hts hV (jo8_place_met (x0a := a) e1) (va_cwO (x := ⟨"JumpFence$Order", "place", "()I"⟩) (owner := "JumpFence$Order") 0 hts (jf_lwO q1297 q831 q830 q837 q830 q116 q850) rfl rfl rfl q850 (by decide +kernel) ⟨by show 0 + 1 ≤ R.frames; omega, by show 8 + (1 + 11) + 40 * 0 ≤ R.locals; omega⟩) hP hS (ci := 14) hq rfl hls rfl hst hW hdg kk
  · rw [jv_place, if_neg (by rw [e0]; decide), if_neg (by rw [e0]; decide), if_neg (by rw [e0]; decide), if_neg (by rw [e0]; decide), if_neg (by rw [e0]; decide), if_neg (by rw [e0]; decide), if_neg (by rw [e0]; decide), if_neg (by rw [e0]; decide), if_neg (by rw [e0]; decide), if_pos e0] at e1
    obtain ⟨q0, hq⟩ := jf_pool (E := E) (S := S) (fo := fo) h0
    exact jf_vcallI hx hb hml hown hts hV (jo8_place_met (x0a := a) e1) (va_cwO (x := ⟨"JumpFence$Order", "place", "()I"⟩) (owner := "JumpFence$Order") 0 hts (jf_lwO q1297 q831 q830 q848 q830 q116 q850) rfl rfl rfl q850 (by decide +kernel) ⟨by show 0 + 1 ≤ R.frames; omega, by show 8 + (1 + 11) + 40 * 0 ≤ R.locals; omega⟩) hP hS (ci := 15) hq rfl hls rfl hst hW hdg kk
theorem jv_place_X4 {F nL lv a : Nat} {r : jo_R}  {out : Int32 × jf_S} {stk : List Value} (hx : p.tables.exec = Jvm.exec) (hb : c.code = cc) (hml : c.maxLocals = nL) (hown : s.vm.findClass RX4 = some m.cls) (hts : ∀ w ∈ lw_all, w.before args s = true) (hlv : jx_hr R lv) (hV : jf_V D E A s) (hi : jo_Is pl a r) (e1 : jv_place F r  S = some out) (h1 : 0 + 1 ≤ lv) (hP : jf_P D E A S fo pl H) (hS : va_S A s.heap H locs) (hls : ls.size = nL) (_ : (1 : Nat) = 1) (hst : stk = ([] : List Value).reverse ++ .ref a :: rest) (hW : 2 * (F0 m pc ls stk).monitorRoom + (rest.map fun v => v.category).sum ≤ 8) (hdg : decode cc pc = .ok (.invokevirtual 141, 3))
    (kk : ∀ (H : Heap) (locs : List Loc), jf_P D E A out.2 fo pl H → va_S A s.heap H locs → W p l e R s m args below meth c H locs 0 0 Q (F0 m (pc + 3) ls (.int out.1 :: rest))) : W p l e R s m args below meth c H locs 0 0 Q (F0 m pc ls stk) := by
  obtain ⟨hv1, hv2⟩ := hlv
  rcases hi with ⟨e0, h0⟩ | ⟨e0, h0⟩ | ⟨e0, h0⟩ | ⟨e0, h0⟩ | ⟨e0, h0⟩ | ⟨e0, h0⟩ | ⟨e0, h0⟩ | ⟨e0, h0⟩ | ⟨e0, h0⟩ | ⟨e0, h0⟩
  · rw [jv_place, if_pos e0] at e1
    obtain ⟨q0, _, _, hq, -, -⟩ := jo_f0 (E := E) (S := S) (fo := fo) h0
    exact jf_vcallI hx hb hml hown hts hV (jo8_place_met (x0a := a) e1) (va_cwO (x := ⟨"JumpFence$Order", "place", "()I"⟩) (owner := "JumpFence$Order") 0 hts (jf_lwO q829 q831 q830 q847 q830 q116 q850) rfl rfl rfl q850 (by decide +kernel) ⟨by show 0 + 1 ≤ R.frames; omega, by show 8 + (1 + 11) + 40 * 0 ≤ R.locals; omega⟩) hP hS (ci := 6) hq rfl hls rfl hst hW hdg kk
  · rw [jv_place, if_neg (by rw [e0]; decide), if_pos e0] at e1
    obtain ⟨q0, hq⟩ := jf_pool (E := E) (S := S) (fo := fo) h0
    exact jf_vcallI hx hb hml hown hts hV (jo10_place_met h0 e1) (va_cwO (x := ⟨"JumpFence$Order", "place", "()I"⟩) (owner := "JumpFence$Order") 0 hts (jf_lwO q829 q831 q830 q844 q845 q118 q846) rfl rfl rfl q850 (by decide +kernel) ⟨by show 0 + 1 ≤ R.frames; omega, by show 8 + (1 + 11) + 40 * 0 ≤ R.locals; omega⟩) hP hS (ci := 7) hq rfl hls rfl hst hW hdg kk
  · rw [jv_place, if_neg (by rw [e0]; decide), if_neg (by rw [e0]; decide), if_pos e0] at e1
    obtain ⟨q0, hq⟩ := jf_pool (E := E) (S := S) (fo := fo) h0
    exact jf_vcallI hx hb hml hown hts hV (jo11_place_met h0 e1) (va_cwO (x := ⟨"JumpFence$Order", "place", "()I"⟩) (owner := "JumpFence$Order") 0 hts (jf_lwO q829 q831 q830 q841 q842 q119 q843) rfl rfl rfl q850 (by decide +kernel) ⟨by show 0 + 1 ≤ R.frames; omega, by show 8 + (1 + 11) + 40 * 0 ≤ R.locals; omega⟩) hP hS (ci := 8) hq rfl hls rfl hst hW hdg kk
  · rw [jv_place, if_neg (by rw [e0]; decide), if_neg (by rw [e0]; decide), if_neg (by rw [e0]; decide), if_pos e0] at e1
    obtain ⟨q0, _, _, hq, -, -⟩ := jo_f3 (E := E) (S := S) (fo := fo) h0
    exact jf_vcallI hx hb hml hown hts hV (jo12_place_met h0 e1) (va_cwO (x := ⟨"JumpFence$Order", "place", "()I"⟩) (owner := "JumpFence$Order") 0 hts (jf_lwO q829 q831 q830 q838 q839 q120 q840) rfl rfl rfl q850 (by decide +kernel) ⟨by show 0 + 1 ≤ R.frames; omega, by show 8 + (1 + 11) + 40 * 0 ≤ R.locals; omega⟩) hP hS (ci := 9) hq rfl hls rfl hst hW hdg kk
  · rw [jv_place, if_neg (by rw [e0]; decide), if_neg (by rw [e0]; decide), if_neg (by rw [e0]; decide), if_neg (by rw [e0]; decide), if_pos e0] at e1
    obtain ⟨q0, hq⟩ := jf_pool (E := E) (S := S) (fo := fo) h0
    exact jf_vcallI hx hb hml hown hts hV (jo8_place_met (x0a := a) e1) (va_cwO (x := ⟨"JumpFence$Order", "place", "()I"⟩) (owner := "JumpFence$Order") 0 hts (jf_lwO q829 q831 q830 q849 q830 q116 q850) rfl rfl rfl q850 (by decide +kernel) ⟨by show 0 + 1 ≤ R.frames; omega, by show 8 + (1 + 11) + 40 * 0 ≤ R.locals; omega⟩) hP hS (ci := 10) hq rfl hls rfl hst hW hdg kk
  · rw [jv_place, if_neg (by rw [e0]; decide), if_neg (by rw [e0]; decide), if_neg (by rw [e0]; decide), if_neg (by rw [e0]; decide), if_neg (by rw [e0]; decide), if_pos e0] at e1
    obtain ⟨q0, hq⟩ := jf_pool (E := E) (S := S) (fo := fo) h0
    exact jf_vcallI hx hb hml hown hts hV (jo14_place_met h0 e1) (va_cwO (x := ⟨"JumpFence$Order", "place", "()I"⟩) (owner := "JumpFence$Order") 0 hts (jf_lwO q829 q831 q830 q834 q835 q122 q836) rfl rfl rfl q850 (by decide +kernel) ⟨by show 0 + 1 ≤ R.frames; omega, by show 8 + (1 + 11) + 40 * 0 ≤ R.locals; omega⟩) hP hS (ci := 11) hq rfl hls rfl hst hW hdg kk
  · rw [jv_place, if_neg (by rw [e0]; decide), if_neg (by rw [e0]; decide), if_neg (by rw [e0]; decide), if_neg (by rw [e0]; decide), if_neg (by rw [e0]; decide), if_neg (by rw [e0]; decide), if_pos e0] at e1
    obtain ⟨q0, hq⟩ := jf_pool (E := E) (S := S) (fo := fo) h0
    exact jf_vcallI hx hb hml hown hts hV (jo8_place_met (x0a := a) e1) (va_cwO (x := ⟨"JumpFence$Order", "place", "()I"⟩) (owner := "JumpFence$Order") 0 hts (jf_lwO q829 q831 q830 q833 q830 q116 q850) rfl rfl rfl q850 (by decide +kernel) ⟨by show 0 + 1 ≤ R.frames; omega, by show 8 + (1 + 11) + 40 * 0 ≤ R.locals; omega⟩) hP hS (ci := 12) hq rfl hls rfl hst hW hdg kk
  · rw [jv_place, if_neg (by rw [e0]; decide), if_neg (by rw [e0]; decide), if_neg (by rw [e0]; decide), if_neg (by rw [e0]; decide), if_neg (by rw [e0]; decide), if_neg (by rw [e0]; decide), if_neg (by rw [e0]; decide), if_pos e0] at e1
    obtain ⟨q0, hq⟩ := jf_pool (E := E) (S := S) (fo := fo) h0
    exact jf_vcallI hx hb hml hown hts hV (jo8_place_met (x0a := a) e1) (va_cwO (x := ⟨"JumpFence$Order", "place", "()I"⟩) (owner := "JumpFence$Order") 0 hts (jf_lwO q829 q831 q830 q832 q830 q116 q850) rfl rfl rfl q850 (by decide +kernel) ⟨by show 0 + 1 ≤ R.frames; omega, by show 8 + (1 + 11) + 40 * 0 ≤ R.locals; omega⟩) hP hS (ci := 13) hq rfl hls rfl hst hW hdg kk
  · rw [jv_place, if_neg (by rw [e0]; decide), if_neg (by rw [e0]; decide), if_neg (by rw [e0]; decide), if_neg (by rw [e0]; decide), if_neg (by rw [e0]; decide), if_neg (by rw [e0]; decide), if_neg (by rw [e0]; decide), if_neg (by rw [e0]; decide), if_pos e0] at e1
    obtain ⟨q0, _, hq, -⟩ := jo_f8 (E := E) (S := S) (fo := fo) h0
    exact jf_vcallI hx hb hml hown hts hV (jo8_place_met (x0a := a) e1) (va_cwO (x := ⟨"JumpFence$Order", "place", "()I"⟩) (owner := "JumpFence$Order") 0 hts (jf_lwO q829 q831 q830 q837 q830 q116 q850) rfl rfl rfl q850 (by decide +kernel) ⟨by show 0 + 1 ≤ R.frames; omega, by show 8 + (1 + 11) + 40 * 0 ≤ R.locals; omega⟩) hP hS (ci := 14) hq rfl hls rfl hst hW hdg kk
  · rw [jv_place, if_neg (by rw [e0]; decide), if_neg (by rw [e0]; decide), if_neg (by rw [e0]; decide), if_neg (by rw [e0]; decide), if_neg (by rw [e0]; decide), if_neg (by rw [e0]; decide), if_neg (by rw [e0]; decide), if_neg (by rw [e0]; decide), if_neg (by rw [e0]; decide), if_pos e0] at e1
    obtain ⟨q0, hq⟩ := jf_pool (E := E) (S := S) (fo := fo) h0
    exact jf_vcallI hx hb hml hown hts hV (jo8_place_met (x0a := a) e1) (va_cwO (x := ⟨"JumpFence$Order", "place", "()I"⟩) (owner := "JumpFence$Order") 0 hts (jf_lwO q829 q831 q830 q848 q830 q116 q850) rfl rfl rfl q850 (by decide +kernel) ⟨by show 0 + 1 ≤ R.frames; omega, by show 8 + (1 + 11) + 40 * 0 ≤ R.locals; omega⟩) hP hS (ci := 15) hq rfl hls rfl hst hW hdg kk
theorem jp_backs_g_X4 : GoodIn lw_all (wsV RX4 116 RX4 yX4_backs (ws_ yX4_backs cX4_backs 8 (some .long))) := lw_V q825 q827 qs9 q108 q828
theorem jp_backs_d : yX4_backs.cls = RX4 ∧ yX4_backs.cls ≠ "java/lang/invoke/MethodHandle" ∧ yX4_backs.cls ≠ "java/lang/invoke/VarHandle" ∧ (parseMethodDescriptor yX4_backs.desc).map (fun d => d.parameters.length) = some 1 := by decide +kernel
theorem jp_backs_b126_ok {out : Int64 × jf_S} (hX : jf_Ok RX4 p R s m args meth c A D E cX4_backs 8 (some .long) 1) (F : Nat) (o : Nat) (ho : o = 3 ∨ o = 4) {r5 : Int32 × Int64 × Int32 × jf_S → Option (Int64 × jf_S)} (hr5 : ∀ a, r5 a = some out → jf_J p l e R s m args below meth c A D E fo pl 8 (jf_Ql below args s A D E fo pl out) 5 [(0, .ref (E.1 o)), (1, .int a.1), (2, .long a.2.1), (4, .int a.2.2.1)] [] a.2.2.2) {r79 : Int32 × Int64 × Int32 × Int64 × Int32 × jf_S → Option (Int64 × jf_S)} (hr79 : ∀ a, r79 a = some out → jf_J p l e R s m args below meth c A D E fo pl 8 (jf_Ql below args s A D E fo pl out) 79 [(0, .ref (E.1 o)), (1, .int a.1), (2, .long a.2.1), (4, .int a.2.2.1), (5, .long a.2.2.2.1), (7, .int a.2.2.2.2.1)] [] a.2.2.2.2.2) (x1 : Int32) (x2 : Int64) (x4 : Int32) (x5 : Int64) (x7 : Int32) (S : jf_S) (h : jp_backs_b126 F o r5 r79 x1 x2 x4 x5 x7 S = some out) : jf_J p l e R s m args below meth c A D E fo pl 8 (jf_Ql below args s A D E fo pl out) 126 [(0, .ref (E.1 o)), (1, .int x1), (2, .long x2), (4, .int x4), (5, .long x5), (7, .int x7)] [] S := by
  intro H locs ls hP hS hl
  have hX0 := hX
  obtain ⟨hx, hb, hml, hown, hts, hlk, hr, hlv, hV, het⟩ := hX0
  unfold jp_backs_b126 at h
  obtain ⟨y1, ey1, h⟩ := jx_nx_some h
  refine lv_iinc (v := y1) (lv' := [(7, .int y1), (0, .ref (E.1 o)), (1, .int x1), (2, .long x2), (4, .int x4), (5, .long x5)]) hx hb dX4_backs_126 hl (k := 5) rfl (jx_inc jx_ki1 ey1) (Nat.le_of_ble_eq_true rfl) rfl (fun ls hl => ?_)
  refine lv_goto (tgt := 79) hx hb dX4_backs_129 rfl ?_
  exact hr79 _ h _ _ _ hP hS (lv_sub hl [1, 2, 3, 4, 5, 0] rfl)
theorem jp_backs_b132_ok {out : Int64 × jf_S} (hX : jf_Ok RX4 p R s m args meth c A D E cX4_backs 8 (some .long) 1) (F : Nat) (o : Nat) (ho : o = 3 ∨ o = 4) {r5 : Int32 × Int64 × Int32 × jf_S → Option (Int64 × jf_S)} (hr5 : ∀ a, r5 a = some out → jf_J p l e R s m args below meth c A D E fo pl 8 (jf_Ql below args s A D E fo pl out) 5 [(0, .ref (E.1 o)), (1, .int a.1), (2, .long a.2.1), (4, .int a.2.2.1)] [] a.2.2.2) (x1 : Int32) (x2 : Int64) (x4 : Int32) (S : jf_S) (h : jp_backs_b132 F o r5 x1 x2 x4 S = some out) : jf_J p l e R s m args below meth c A D E fo pl 8 (jf_Ql below args s A D E fo pl out) 132 [(0, .ref (E.1 o)), (1, .int x1), (2, .long x2), (4, .int x4)] [] S := by
  intro H locs ls hP hS hl
  have hX0 := hX
  obtain ⟨hx, hb, hml, hown, hts, hlk, hr, hlv, hV, het⟩ := hX0
  unfold jp_backs_b132 at h
  obtain ⟨y1, ey1, h⟩ := jx_nx_some h
  refine lv_iinc (v := y1) (lv' := [(4, .int y1), (0, .ref (E.1 o)), (1, .int x1), (2, .long x2)]) hx hb dX4_backs_132 hl (k := 3) rfl (jx_inc jx_ki1 ey1) (Nat.le_of_ble_eq_true rfl) rfl (fun ls hl => ?_)
  refine lv_goto (tgt := 5) hx hb dX4_backs_135 rfl ?_
  exact hr5 _ h _ _ _ hP hS (lv_sub hl [1, 2, 3, 0] rfl)
theorem jp_backs_L79_ok {out : Int64 × jf_S} (hX : jf_Ok RX4 p R s m args meth c A D E cX4_backs 8 (some .long) 1) (F : Nat) (o : Nat) (ho : o = 3 ∨ o = 4) {r5 : Int32 × Int64 × Int32 × jf_S → Option (Int64 × jf_S)} (hr5 : ∀ a, r5 a = some out → jf_J p l e R s m args below meth c A D E fo pl 8 (jf_Ql below args s A D E fo pl out) 5 [(0, .ref (E.1 o)), (1, .int a.1), (2, .long a.2.1), (4, .int a.2.2.1)] [] a.2.2.2) {r79 : Int32 × Int64 × Int32 × Int64 × Int32 × jf_S → Option (Int64 × jf_S)} (hr79 : ∀ a, r79 a = some out → jf_J p l e R s m args below meth c A D E fo pl 8 (jf_Ql below args s A D E fo pl out) 79 [(0, .ref (E.1 o)), (1, .int a.1), (2, .long a.2.1), (4, .int a.2.2.1), (5, .long a.2.2.2.1), (7, .int a.2.2.2.2.1)] [] a.2.2.2.2.2) (x1 : Int32) (x2 : Int64) (x4 : Int32) (x5 : Int64) (x7 : Int32) (S : jf_S) (h : jp_backs_L79 F o r5 r79 x1 x2 x4 x5 x7 S = some out) : jf_J p l e R s m args below meth c A D E fo pl 8 (jf_Ql below args s A D E fo pl out) 79 [(0, .ref (E.1 o)), (1, .int x1), (2, .long x2), (4, .int x4), (5, .long x5), (7, .int x7)] [] S := by
  intro H locs ls hP hS hl
  have hX0 := hX
  obtain ⟨hx, hb, hml, hown, hts, hlk, hr, hlv, hV, het⟩ := hX0
  unfold jp_backs_L79 at h
  refine lv_iload hx hb dX4_backs_79 (lv_at hl 5 rfl) ?_
  refine lv_aload_n hx hb dX4_backs_81 rfl (lv_at hl 0 rfl) ?_
  refine jf_get hx hb hts in_X4 hown hV hP (ci := 3) (k := 13) (jf_oP ho) rfl (by decide) (hts _ q308) rfl rfl dX4_backs_82 ?_
  refine lv_icmp_ge (tgt := 132) hx hb dX4_backs_85 rfl (fun c1 => ?_) (fun c1 => ?_)
  · rw [if_pos c1] at h
    exact jp_backs_b132_ok hX F o ho hr5 _ _ _ _ h _ _ _ hP hS (lv_sub hl [0, 1, 2, 3] rfl)
  · rw [if_neg c1] at h
    refine lv_lload hx hb dX4_backs_88 (lv_at hl 4 rfl) ?_
    refine lv_iload hx hb dX4_backs_90 (lv_at hl 5 rfl) ?_
    refine lv_lshr hx hb dX4_backs_92 rfl ?_
    refine lv_lconst hx hb dX4_backs_93 jx_kl1 ?_
    refine lv_land hx hb dX4_backs_94 ?_
    refine lv_lconst hx hb dX4_backs_95 jx_kl1 ?_
    refine W.lcmp hx hb dX4_backs_96 ?_
    refine lv_if_ne (tgt := 126) hx hb dX4_backs_97 rfl (fun c2 => ?_) (fun c2 => ?_)
    · rw [if_neg c2] at h
      exact jp_backs_b126_ok hX F o ho hr5 hr79 _ _ _ _ _ _ h _ _ _ hP hS hl
    · rw [if_pos c2] at h
      refine lv_aload_n hx hb dX4_backs_100 rfl (lv_at hl 0 rfl) ?_
      refine jf_get hx hb hts in_X4 hown hV hP (ci := 3) (k := 12) (jf_oP ho) rfl (by decide) (hts _ q307) rfl rfl dX4_backs_101 ?_
      refine lv_iload hx hb dX4_backs_104 (lv_at hl 5 rfl) ?_
      obtain ⟨j3, ej3, bj3, h⟩ := jx_ga_some h
      refine jf_lald hx hb hV hP (jf_aP12 ho) ej3 bj3 dX4_backs_106 ?_
      refine lv_iload_n hx hb dX4_backs_107 rfl (lv_at hl 1 rfl) ?_
      refine lv_lshr hx hb dX4_backs_108 rfl ?_
      refine lv_lconst hx hb dX4_backs_109 jx_kl1 ?_
      refine lv_land hx hb dX4_backs_110 ?_
      refine lv_lconst hx hb dX4_backs_111 jx_kl1 ?_
      refine W.lcmp hx hb dX4_backs_112 ?_
      refine lv_if_ne (tgt := 126) hx hb dX4_backs_113 rfl (fun c4 => ?_) (fun c4 => ?_)
      · rw [if_neg c4] at h
        exact jp_backs_b126_ok hX F o ho hr5 hr79 _ _ _ _ _ _ h _ _ _ hP hS hl
      · rw [if_pos c4] at h
        refine lv_lload_n hx hb dX4_backs_116 rfl (lv_at hl 2 rfl) ?_
        refine lv_iload hx hb dX4_backs_117 (lv_at hl 3 rfl) ?_
        refine lv_iconst hx hb dX4_backs_119 jx_ki1 ?_
        refine lv_iadd hx hb dX4_backs_120 ?_
        obtain ⟨q5, eq5, h⟩ := jx_bi_some h
        refine jx_callSNl hx hb hml hown hts (jf_nm_X4_89 hV.2.2.1) (jf_bit_met eq5) jf_bit_c jf_bit_s jf_bit_i jf_bit_d (As := [.int (x4 + (nI 1))]) (⟨Nat.le_trans (Nat.le_of_ble_eq_true rfl) hlv.1, Nat.le_trans (Nat.le_of_ble_eq_true rfl) hlv.2⟩) hl.1 rfl rfl (lv_room (Nat.le_of_ble_eq_true rfl)) dX4_backs_121 ⟨Nat.zero_le _, Nat.zero_le _⟩ ?_
        refine lv_lor hx hb dX4_backs_124 ?_
        obtain ⟨y6, ey6, h⟩ := jx_nx_some h
        refine jx_topl ey6 ?_
        refine lv_lstore_n (lv' := [(2, .long y6), (0, .ref (E.1 o)), (1, .int x1), (4, .int x4), (5, .long x5), (7, .int x7)]) hx hb dX4_backs_125 rfl hl (Nat.le_of_ble_eq_true rfl) rfl (fun ls hl => ?_)
        exact jp_backs_b126_ok hX F o ho hr5 hr79 _ _ _ _ _ _ h _ _ _ hP hS (lv_sub hl [1, 2, 0, 3, 4, 5] rfl)
theorem jp_backs_h79_ok {out : Int64 × jf_S} (hX : jf_Ok RX4 p R s m args meth c A D E cX4_backs 8 (some .long) 1) (F : Nat) (o : Nat) (ho : o = 3 ∨ o = 4) {r5 : Int32 × Int64 × Int32 × jf_S → Option (Int64 × jf_S)} (hr5 : ∀ a, r5 a = some out → jf_J p l e R s m args below meth c A D E fo pl 8 (jf_Ql below args s A D E fo pl out) 5 [(0, .ref (E.1 o)), (1, .int a.1), (2, .long a.2.1), (4, .int a.2.2.1)] [] a.2.2.2) (n : Nat) (a : Int32 × Int64 × Int32 × Int64 × Int32 × jf_S) (h : jp_backs_h79 F o r5 n a = some out) : jf_J p l e R s m args below meth c A D E fo pl 8 (jf_Ql below args s A D E fo pl out) 79 [(0, .ref (E.1 o)), (1, .int a.1), (2, .long a.2.1), (4, .int a.2.2.1), (5, .long a.2.2.2.1), (7, .int a.2.2.2.2.1)] [] a.2.2.2.2.2 :=
  jx_loop_ind (J := fun a => jf_J p l e R s m args below meth c A D E fo pl 8 (jf_Ql below args s A D E fo pl out) 79 [(0, .ref (E.1 o)), (1, .int a.1), (2, .long a.2.1), (4, .int a.2.2.1), (5, .long a.2.2.2.1), (7, .int a.2.2.2.2.1)] [] a.2.2.2.2.2) (fun r hr a h => jp_backs_L79_ok hX F o ho hr5 hr a.1 a.2.1 a.2.2.1 a.2.2.2.1 a.2.2.2.2.1 a.2.2.2.2.2 h) n a h
theorem jp_backs_b74_ok {out : Int64 × jf_S} (hX : jf_Ok RX4 p R s m args meth c A D E cX4_backs 8 (some .long) 1) (F : Nat) (o : Nat) (ho : o = 3 ∨ o = 4) {r5 : Int32 × Int64 × Int32 × jf_S → Option (Int64 × jf_S)} (hr5 : ∀ a, r5 a = some out → jf_J p l e R s m args below meth c A D E fo pl 8 (jf_Ql below args s A D E fo pl out) 5 [(0, .ref (E.1 o)), (1, .int a.1), (2, .long a.2.1), (4, .int a.2.2.1)] [] a.2.2.2) (x1 : Int32) (x2 : Int64) (x4 : Int32) (k0 : Int64) (S : jf_S) (h : jp_backs_b74 F o r5 x1 x2 x4 k0 S = some out) : jf_J p l e R s m args below meth c A D E fo pl 8 (jf_Ql below args s A D E fo pl out) 74 [(0, .ref (E.1 o)), (1, .int x1), (2, .long x2), (4, .int x4)] [.long k0] S := by
  intro H locs ls hP hS hl
  have hX0 := hX
  obtain ⟨hx, hb, hml, hown, hts, hlk, hr, hlv, hV, het⟩ := hX0
  unfold jp_backs_b74 at h
  refine lv_lstore (lv' := [(5, .long k0), (0, .ref (E.1 o)), (1, .int x1), (2, .long x2), (4, .int x4)]) hx hb dX4_backs_74 hl (Nat.le_of_ble_eq_true rfl) rfl (fun ls hl => ?_)
  refine lv_iconst hx hb dX4_backs_76 jx_ki0 ?_
  obtain ⟨y1, ey1, h⟩ := jx_nx_some h
  refine jx_topi ey1 ?_
  refine lv_istore (lv' := [(7, .int y1), (5, .long k0), (0, .ref (E.1 o)), (1, .int x1), (2, .long x2), (4, .int x4)]) hx hb dX4_backs_77 hl (Nat.le_of_ble_eq_true rfl) rfl (fun ls hl => ?_)
  exact jp_backs_h79_ok hX F o ho hr5 F _ h _ _ _ hP hS (lv_sub hl [2, 3, 4, 5, 1, 0] rfl)
theorem jp_backs_L5_ok {out : Int64 × jf_S} (hX : jf_Ok RX4 p R s m args meth c A D E cX4_backs 8 (some .long) 1) (F : Nat) (o : Nat) (ho : o = 3 ∨ o = 4) {r5 : Int32 × Int64 × Int32 × jf_S → Option (Int64 × jf_S)} (hr5 : ∀ a, r5 a = some out → jf_J p l e R s m args below meth c A D E fo pl 8 (jf_Ql below args s A D E fo pl out) 5 [(0, .ref (E.1 o)), (1, .int a.1), (2, .long a.2.1), (4, .int a.2.2.1)] [] a.2.2.2) (x1 : Int32) (x2 : Int64) (x4 : Int32) (S : jf_S) (h : jp_backs_L5 F o r5 x1 x2 x4 S = some out) : jf_J p l e R s m args below meth c A D E fo pl 8 (jf_Ql below args s A D E fo pl out) 5 [(0, .ref (E.1 o)), (1, .int x1), (2, .long x2), (4, .int x4)] [] S := by
  intro H locs ls hP hS hl
  have hX0 := hX
  obtain ⟨hx, hb, hml, hown, hts, hlk, hr, hlv, hV, het⟩ := hX0
  unfold jp_backs_L5 at h
  refine lv_iload hx hb dX4_backs_5 (lv_at hl 3 rfl) ?_
  refine lv_iconst hx hb dX4_backs_7 jx_ki1 ?_
  refine lv_iadd hx hb dX4_backs_8 ?_
  refine lv_aload_n hx hb dX4_backs_9 rfl (lv_at hl 0 rfl) ?_
  refine jf_get hx hb hts in_X4 hown hV hP (ci := 3) (k := 13) (jf_oP ho) rfl (by decide) (hts _ q308) rfl rfl dX4_backs_10 ?_
  refine lv_icmp_ge (tgt := 138) hx hb dX4_backs_13 rfl (fun c1 => ?_) (fun c1 => ?_)
  · rw [if_pos c1] at h
    refine lv_lload_n hx hb dX4_backs_138 rfl (lv_at hl 2 rfl) ?_
    exact jf_lret hx hb hr hlk hV hP hS h dX4_backs_139
  · rw [if_neg c1] at h
    refine lv_aload_n hx hb dX4_backs_16 rfl (lv_at hl 0 rfl) ?_
    refine jf_get hx hb hts in_X4 hown hV hP (ci := 3) (k := 0) (jf_oP ho) rfl (by decide) (hts _ q275) rfl rfl dX4_backs_17 ?_
    refine lv_iload hx hb dX4_backs_20 (lv_at hl 3 rfl) ?_
    obtain ⟨j2, ej2, bj2, h⟩ := jx_ga_some h
    obtain ⟨r3, er3, h⟩ := jx_bi_some h
    refine jf_qald hx hb hV hP (jf_aP0 ho) ej2 bj2 er3 dX4_backs_22 (fun r3a r3h => ?_)
    obtain ⟨q4, eq4, h⟩ := jx_bi_some h
    refine jv_puts_X4 hx hb hml hown hts hlv hV r3h eq4 (Nat.le_of_ble_eq_true rfl) hP hS hl.1 rfl rfl (lv_room (Nat.le_of_ble_eq_true rfl)) dX4_backs_23 (fun H locs hP hS => ?_)
    refine lv_if_ne (tgt := 32) hx hb dX4_backs_26 rfl (fun c5 => ?_) (fun c5 => ?_)
    · rw [if_neg c5] at h
      refine lv_aload_n hx hb dX4_backs_32 rfl (lv_at hl 0 rfl) ?_
      refine jf_get hx hb hts in_X4 hown hV hP (ci := 3) (k := 0) (jf_oP ho) rfl (by decide) (hts _ q275) rfl rfl dX4_backs_33 ?_
      refine lv_iload hx hb dX4_backs_36 (lv_at hl 3 rfl) ?_
      obtain ⟨j6, ej6, bj6, h⟩ := jx_ga_some h
      obtain ⟨r7, er7, h⟩ := jx_bi_some h
      refine jf_qald hx hb hV hP (jf_aP0 ho) ej6 bj6 er7 dX4_backs_38 (fun r7a r7h => ?_)
      obtain ⟨q8, eq8, h⟩ := jx_bi_some h
      refine jv_word_X4 hx hb hml hown hts hlv hV r7h eq8 (Nat.le_of_ble_eq_true rfl) hP hS hl.1 rfl rfl (lv_room (Nat.le_of_ble_eq_true rfl)) dX4_backs_39 (fun H locs hP hS => ?_)
      refine lv_iconst hx hb dX4_backs_42 jx_ki5 ?_
      refine lv_icmp_ne (tgt := 67) hx hb dX4_backs_43 rfl (fun c9 => ?_) (fun c9 => ?_)
      · rw [if_neg c9] at h
        refine lv_aload_n hx hb dX4_backs_67 rfl (lv_at hl 0 rfl) ?_
        refine jf_get hx hb hts in_X4 hown hV hP (ci := 3) (k := 11) (jf_oP ho) rfl (by decide) (hts _ q304) rfl rfl dX4_backs_68 ?_
        refine lv_iload hx hb dX4_backs_71 (lv_at hl 3 rfl) ?_
        obtain ⟨j10, ej10, bj10, h⟩ := jx_ga_some h
        refine jf_lald hx hb hV hP (jf_aP11 ho) ej10 bj10 dX4_backs_73 ?_
        exact jp_backs_b74_ok hX F o ho hr5 _ _ _ _ _ h _ _ _ hP hS hl
      · rw [if_pos c9] at h
        refine lv_aload_n hx hb dX4_backs_46 rfl (lv_at hl 0 rfl) ?_
        refine jf_get hx hb hts in_X4 hown hV hP (ci := 3) (k := 0) (jf_oP ho) rfl (by decide) (hts _ q275) rfl rfl dX4_backs_47 ?_
        refine lv_iload hx hb dX4_backs_50 (lv_at hl 3 rfl) ?_
        obtain ⟨j11, ej11, bj11, h⟩ := jx_ga_some h
        obtain ⟨r12, er12, h⟩ := jx_bi_some h
        refine jf_qald hx hb hV hP (jf_aP0 ho) ej11 bj11 er12 dX4_backs_52 (fun r12a r12h => ?_)
        obtain ⟨q13, eq13, h⟩ := jx_bi_some h
        refine jv_place_X4 hx hb hml hown hts hlv hV r12h eq13 (Nat.le_of_ble_eq_true rfl) hP hS hl.1 rfl rfl (lv_room (Nat.le_of_ble_eq_true rfl)) dX4_backs_53 (fun H locs hP hS => ?_)
        obtain ⟨q14, eq14, h⟩ := jx_bi_some h
        refine jx_callSNl hx hb hml hown hts (jf_nm_X4_89 hV.2.2.1) (jf_bit_met eq14) jf_bit_c jf_bit_s jf_bit_i jf_bit_d (As := [.int q13.1]) (⟨Nat.le_trans (Nat.le_of_ble_eq_true rfl) hlv.1, Nat.le_trans (Nat.le_of_ble_eq_true rfl) hlv.2⟩) hl.1 rfl rfl (lv_room (Nat.le_of_ble_eq_true rfl)) dX4_backs_56 ⟨Nat.zero_le _, Nat.zero_le _⟩ ?_
        refine lv_aload_n hx hb dX4_backs_59 rfl (lv_at hl 0 rfl) ?_
        obtain ⟨q15, eq15, h⟩ := jx_bi_some h
        refine jf_callL hx hb hml hown hts hlv hV (jp_all_met ho eq15) jp_all_g_X4 jp_all_d (As := []) (Nat.le_of_ble_eq_true rfl) (Nat.le_of_ble_eq_true rfl) hP hS (ci := 3) (jf_oP ho) rfl hl.1 rfl rfl (lv_room (Nat.le_of_ble_eq_true rfl)) dX4_backs_60 (fun H locs hP hS => ?_)
        refine lv_land hx hb dX4_backs_63 ?_
        refine lv_goto (tgt := 74) hx hb dX4_backs_64 rfl ?_
        exact jp_backs_b74_ok hX F o ho hr5 _ _ _ _ _ h _ _ _ hP hS hl
    · rw [if_pos c5] at h
      refine lv_goto (tgt := 132) hx hb dX4_backs_29 rfl ?_
      exact jp_backs_b132_ok hX F o ho hr5 _ _ _ _ h _ _ _ hP hS hl
theorem jp_backs_h5_ok {out : Int64 × jf_S} (hX : jf_Ok RX4 p R s m args meth c A D E cX4_backs 8 (some .long) 1) (F : Nat) (o : Nat) (ho : o = 3 ∨ o = 4) (n : Nat) (a : Int32 × Int64 × Int32 × jf_S) (h : jp_backs_h5 F o n a = some out) : jf_J p l e R s m args below meth c A D E fo pl 8 (jf_Ql below args s A D E fo pl out) 5 [(0, .ref (E.1 o)), (1, .int a.1), (2, .long a.2.1), (4, .int a.2.2.1)] [] a.2.2.2 :=
  jx_loop_ind (J := fun a => jf_J p l e R s m args below meth c A D E fo pl 8 (jf_Ql below args s A D E fo pl out) 5 [(0, .ref (E.1 o)), (1, .int a.1), (2, .long a.2.1), (4, .int a.2.2.1)] [] a.2.2.2) (fun r hr a h => jp_backs_L5_ok hX F o ho hr a.1 a.2.1 a.2.2.1 a.2.2.2 h) n a h
theorem jp_backs_ok {out : Int64 × jf_S} (hX : jf_Ok RX4 p R s m args meth c A D E cX4_backs 8 (some .long) 1) (F : Nat) (o : Nat) (ho : o = 3 ∨ o = 4) (x1 : Int32) (S : jf_S) (h : jp_backs F o x1 S = some out) : jf_J p l e R s m args below meth c A D E fo pl 8 (jf_Ql below args s A D E fo pl out) 0 [(0, .ref (E.1 o)), (1, .int x1)] [] S := by
  intro H locs ls hP hS hl
  have hX0 := hX
  obtain ⟨hx, hb, hml, hown, hts, hlk, hr, hlv, hV, het⟩ := hX0
  unfold jp_backs at h
  refine lv_lconst hx hb dX4_backs_0 jx_kl0 ?_
  obtain ⟨y1, ey1, h⟩ := jx_nx_some h
  refine jx_topl ey1 ?_
  refine lv_lstore_n (lv' := [(2, .long y1), (0, .ref (E.1 o)), (1, .int x1)]) hx hb dX4_backs_1 rfl hl (Nat.le_of_ble_eq_true rfl) rfl (fun ls hl => ?_)
  refine lv_iconst hx hb dX4_backs_2 jx_ki0 ?_
  obtain ⟨y2, ey2, h⟩ := jx_nx_some h
  refine jx_topi ey2 ?_
  refine lv_istore (lv' := [(4, .int y2), (2, .long y1), (0, .ref (E.1 o)), (1, .int x1)]) hx hb dX4_backs_3 hl (Nat.le_of_ble_eq_true rfl) rfl (fun ls hl => ?_)
  exact jp_backs_h5_ok hX F o ho F _ h _ _ _ hP hS (lv_sub hl [2, 3, 1, 0] rfl)
theorem jp_backs_met {l : Launch} {D : va_G} {E : jf_E} {A : Nat → Prop} {fo : Nat → Nat → Option Nat} {pl : va_W} {F : Nat} {o : Nat} (ho : o = 3 ∨ o = 4) {x1 : Int32} {S : jf_S} {out : Int64 × jf_S} (h : jp_backs F o x1 S = some out) : jf_Ml l D E A fo pl yX4_backs cX4_backs 8 (some .long) 1 [.ref (E.1 o), .int x1] S out :=
  jf_Ml_of (own := RX4) ⟨by decide, rfl, Nat.le_of_ble_eq_true rfl⟩ (fun hX => jp_backs_ok hX F o ho x1 S h)
theorem jp_learns_g_X1 : GoodIn lw_all (wsV RX1 131 RX4 yX4_learns (ws_ yX4_learns cX4_learns 3 none)) := lw_V q1233 q737 q738 q108 q739
theorem jp_learns_g_X4 : GoodIn lw_all (wsV RX4 75 RX4 yX4_learns (ws_ yX4_learns cX4_learns 3 none)) := lw_V q736 q737 q738 q108 q739
theorem jp_learns_d : yX4_learns.cls = RX4 ∧ yX4_learns.cls ≠ "java/lang/invoke/MethodHandle" ∧ yX4_learns.cls ≠ "java/lang/invoke/VarHandle" ∧ (parseMethodDescriptor yX4_learns.desc).map (fun d => d.parameters.length) = some 0 := by decide +kernel
theorem jp_learns_b51_ok {out : jf_S} (hX : jf_Ok RX4 p R s m args meth c A D E cX4_learns 3 none 3) (F : Nat) (o : Nat) (ho : o = 3 ∨ o = 4) {r11 : Int32 × jf_S → Option (jf_S)} (hr11 : ∀ a, r11 a = some out → jf_J p l e R s m args below meth c A D E fo pl 3 (jf_Qv below args s A D E fo pl out) 11 [(0, .ref (E.1 o)), (1, .int a.1)] [] a.2) (x1 : Int32) (S : jf_S) (h : jp_learns_b51 F o r11 x1 S = some out) : jf_J p l e R s m args below meth c A D E fo pl 3 (jf_Qv below args s A D E fo pl out) 51 [(0, .ref (E.1 o)), (1, .int x1)] [] S := by
  intro H locs ls hP hS hl
  have hX0 := hX
  obtain ⟨hx, hb, hml, hown, hts, hlk, hr, hlv, hV, het⟩ := hX0
  unfold jp_learns_b51 at h
  obtain ⟨y1, ey1, h⟩ := jx_nx_some h
  refine lv_iinc (v := y1) (lv' := [(1, .int y1), (0, .ref (E.1 o))]) hx hb dX4_learns_51 hl (k := 1) rfl (jx_inc jx_ki1 ey1) (Nat.le_of_ble_eq_true rfl) rfl (fun ls hl => ?_)
  refine lv_goto (tgt := 11) hx hb dX4_learns_54 rfl ?_
  exact hr11 _ h _ _ _ hP hS (lv_sub hl [1, 0] rfl)
theorem jp_learns_b155_ok {out : jf_S} (hX : jf_Ok RX4 p R s m args meth c A D E cX4_learns 3 none 3) (F : Nat) (o : Nat) (ho : o = 3 ∨ o = 4) {r59 : Int32 × jf_S → Option (jf_S)} (hr59 : ∀ a, r59 a = some out → jf_J p l e R s m args below meth c A D E fo pl 3 (jf_Qv below args s A D E fo pl out) 59 [(0, .ref (E.1 o)), (1, .int a.1)] [] a.2) {r97 : Int32 × Int32 × jf_S → Option (jf_S)} (hr97 : ∀ a, r97 a = some out → jf_J p l e R s m args below meth c A D E fo pl 3 (jf_Qv below args s A D E fo pl out) 97 [(0, .ref (E.1 o)), (1, .int a.1), (2, .int a.2.1)] [] a.2.2) (x1 : Int32) (x2 : Int32) (k0 : Int64) (k1 : Int64) (k2 : Int32) (S : jf_S) (h : jp_learns_b155 F o r59 r97 x1 x2 k0 k1 k2 S = some out) : jf_J p l e R s m args below meth c A D E fo pl 3 (jf_Qv below args s A D E fo pl out) 155 [(0, .ref (E.1 o)), (1, .int x1), (2, .int x2)] [.long k0, .long k1, .int k2, .ref (E.2.1 o 10)] S := by
  intro H locs ls hP hS hl
  have hX0 := hX
  obtain ⟨hx, hb, hml, hown, hts, hlk, hr, hlv, hV, het⟩ := hX0
  unfold jp_learns_b155 at h
  refine lv_lor hx hb dX4_learns_155 ?_
  obtain ⟨j1, ej1, bj1, h⟩ := jx_ga_some h
  obtain ⟨S2, eS2, h⟩ := jx_nx_some h
  refine jf_last hx hb hV hP hS (jf_aP10 ho) ej1 bj1 eS2 dX4_learns_156 (fun H locs hP hS => ?_)
  obtain ⟨y3, ey3, h⟩ := jx_nx_some h
  refine lv_iinc (v := y3) (lv' := [(2, .int y3), (0, .ref (E.1 o)), (1, .int x1)]) hx hb dX4_learns_157 hl (k := 2) rfl (jx_inc jx_ki1 ey3) (Nat.le_of_ble_eq_true rfl) rfl (fun ls hl => ?_)
  refine lv_goto (tgt := 97) hx hb dX4_learns_160 rfl ?_
  exact hr97 _ h _ _ _ hP hS (lv_sub hl [1, 2, 0] rfl)
theorem jp_learns_b233_ok {out : jf_S} (hX : jf_Ok RX4 p R s m args meth c A D E cX4_learns 3 none 3) (F : Nat) (o : Nat) (ho : o = 3 ∨ o = 4) {r59 : Int32 × jf_S → Option (jf_S)} (hr59 : ∀ a, r59 a = some out → jf_J p l e R s m args below meth c A D E fo pl 3 (jf_Qv below args s A D E fo pl out) 59 [(0, .ref (E.1 o)), (1, .int a.1)] [] a.2) (x1 : Int32) (S : jf_S) (h : jp_learns_b233 F o r59 x1 S = some out) : jf_J p l e R s m args below meth c A D E fo pl 3 (jf_Qv below args s A D E fo pl out) 233 [(0, .ref (E.1 o)), (1, .int x1)] [] S := by
  intro H locs ls hP hS hl
  have hX0 := hX
  obtain ⟨hx, hb, hml, hown, hts, hlk, hr, hlv, hV, het⟩ := hX0
  unfold jp_learns_b233 at h
  obtain ⟨y1, ey1, h⟩ := jx_nx_some h
  refine lv_iinc (v := y1) (lv' := [(1, .int y1), (0, .ref (E.1 o))]) hx hb dX4_learns_233 hl (k := 1) rfl (jx_inc jx_ki1 ey1) (Nat.le_of_ble_eq_true rfl) rfl (fun ls hl => ?_)
  refine lv_goto (tgt := 59) hx hb dX4_learns_236 rfl ?_
  exact hr59 _ h _ _ _ hP hS (lv_sub hl [1, 0] rfl)
theorem jp_learns_b232_ok {out : jf_S} (hX : jf_Ok RX4 p R s m args meth c A D E cX4_learns 3 none 3) (F : Nat) (o : Nat) (ho : o = 3 ∨ o = 4) {r59 : Int32 × jf_S → Option (jf_S)} (hr59 : ∀ a, r59 a = some out → jf_J p l e R s m args below meth c A D E fo pl 3 (jf_Qv below args s A D E fo pl out) 59 [(0, .ref (E.1 o)), (1, .int a.1)] [] a.2) (x1 : Int32) (k0 : Int64) (k1 : Int32) (S : jf_S) (h : jp_learns_b232 F o r59 x1 k0 k1 S = some out) : jf_J p l e R s m args below meth c A D E fo pl 3 (jf_Qv below args s A D E fo pl out) 232 [(0, .ref (E.1 o)), (1, .int x1)] [.long k0, .int k1, .ref (E.2.1 o 11)] S := by
  intro H locs ls hP hS hl
  have hX0 := hX
  obtain ⟨hx, hb, hml, hown, hts, hlk, hr, hlv, hV, het⟩ := hX0
  unfold jp_learns_b232 at h
  obtain ⟨j1, ej1, bj1, h⟩ := jx_ga_some h
  obtain ⟨S2, eS2, h⟩ := jx_nx_some h
  refine jf_last hx hb hV hP hS (jf_aP11 ho) ej1 bj1 eS2 dX4_learns_232 (fun H locs hP hS => ?_)
  exact jp_learns_b233_ok hX F o ho hr59 _ _ h _ _ _ hP hS hl
theorem jp_learns_b163_ok {out : jf_S} (hX : jf_Ok RX4 p R s m args meth c A D E cX4_learns 3 none 3) (F : Nat) (o : Nat) (ho : o = 3 ∨ o = 4) {r59 : Int32 × jf_S → Option (jf_S)} (hr59 : ∀ a, r59 a = some out → jf_J p l e R s m args below meth c A D E fo pl 3 (jf_Qv below args s A D E fo pl out) 59 [(0, .ref (E.1 o)), (1, .int a.1)] [] a.2) (x1 : Int32) (S : jf_S) (h : jp_learns_b163 F o r59 x1 S = some out) : jf_J p l e R s m args below meth c A D E fo pl 3 (jf_Qv below args s A D E fo pl out) 163 [(0, .ref (E.1 o)), (1, .int x1)] [] S := by
  intro H locs ls hP hS hl
  have hX0 := hX
  obtain ⟨hx, hb, hml, hown, hts, hlk, hr, hlv, hV, het⟩ := hX0
  unfold jp_learns_b163 at h
  refine lv_aload_n hx hb dX4_learns_163 rfl (lv_at hl 0 rfl) ?_
  refine jf_get hx hb hts in_X4 hown hV hP (ci := 3) (k := 0) (jf_oP ho) rfl (by decide) (hts _ q275) rfl rfl dX4_learns_164 ?_
  refine lv_iload_n hx hb dX4_learns_167 rfl (lv_at hl 1 rfl) ?_
  obtain ⟨j1, ej1, bj1, h⟩ := jx_ga_some h
  obtain ⟨r2, er2, h⟩ := jx_bi_some h
  refine jf_qald hx hb hV hP (jf_aP0 ho) ej1 bj1 er2 dX4_learns_168 (fun r2a r2h => ?_)
  obtain ⟨q3, eq3, h⟩ := jx_bi_some h
  refine jv_cell_X4 hx hb hml hown hts hlv hV r2h eq3 (Nat.le_of_ble_eq_true rfl) hP hS hl.1 rfl rfl (lv_room (Nat.le_of_ble_eq_true rfl)) dX4_learns_169 (fun H locs hP hS => ?_)
  refine lv_iconst hx hb dX4_learns_172 jx_kim1 ?_
  refine lv_icmp_ne (tgt := 179) hx hb dX4_learns_173 rfl (fun c4 => ?_) (fun c4 => ?_)
  · rw [if_neg c4] at h
    refine lv_aload_n hx hb dX4_learns_179 rfl (lv_at hl 0 rfl) ?_
    refine jf_get hx hb hts in_X4 hown hV hP (ci := 3) (k := 11) (jf_oP ho) rfl (by decide) (hts _ q304) rfl rfl dX4_learns_180 ?_
    refine lv_iload_n hx hb dX4_learns_183 rfl (lv_at hl 1 rfl) ?_
    refine lv_aload_n hx hb dX4_learns_184 rfl (lv_at hl 0 rfl) ?_
    refine jf_get hx hb hts in_X4 hown hV hP (ci := 3) (k := 17) (jf_oP ho) rfl (by decide) (hts _ q318) rfl rfl dX4_learns_185 ?_
    refine lv_aload_n hx hb dX4_learns_188 rfl (lv_at hl 0 rfl) ?_
    refine jf_get hx hb hts in_X4 hown hV hP (ci := 3) (k := 0) (jf_oP ho) rfl (by decide) (hts _ q275) rfl rfl dX4_learns_189 ?_
    refine lv_iload_n hx hb dX4_learns_192 rfl (lv_at hl 1 rfl) ?_
    obtain ⟨j5, ej5, bj5, h⟩ := jx_ga_some h
    obtain ⟨r6, er6, h⟩ := jx_bi_some h
    refine jf_qald hx hb hV hP (jf_aP0 ho) ej5 bj5 er6 dX4_learns_193 (fun r6a r6h => ?_)
    obtain ⟨q7, eq7, h⟩ := jx_bi_some h
    refine jv_cell_X4 hx hb hml hown hts hlv hV r6h eq7 (Nat.le_of_ble_eq_true rfl) hP hS hl.1 rfl rfl (lv_room (Nat.le_of_ble_eq_true rfl)) dX4_learns_194 (fun H locs hP hS => ?_)
    refine lv_ishr hx hb dX4_learns_197 ?_
    refine lv_iconst hx hb dX4_learns_198 jx_ki1 ?_
    refine lv_iand hx hb dX4_learns_199 ?_
    refine lv_iconst hx hb dX4_learns_200 jx_ki1 ?_
    refine lv_icmp_ne (tgt := 213) hx hb dX4_learns_201 rfl (fun c8 => ?_) (fun c8 => ?_)
    · rw [if_neg c8] at h
      refine lv_aload_n hx hb dX4_learns_213 rfl (lv_at hl 0 rfl) ?_
      refine jf_get hx hb hts in_X4 hown hV hP (ci := 3) (k := 9) (jf_oP ho) rfl (by decide) (hts _ q299) rfl rfl dX4_learns_214 ?_
      refine lv_aload_n hx hb dX4_learns_217 rfl (lv_at hl 0 rfl) ?_
      refine jf_get hx hb hts in_X4 hown hV hP (ci := 3) (k := 0) (jf_oP ho) rfl (by decide) (hts _ q275) rfl rfl dX4_learns_218 ?_
      refine lv_iload_n hx hb dX4_learns_221 rfl (lv_at hl 1 rfl) ?_
      obtain ⟨j9, ej9, bj9, h⟩ := jx_ga_some h
      obtain ⟨r10, er10, h⟩ := jx_bi_some h
      refine jf_qald hx hb hV hP (jf_aP0 ho) ej9 bj9 er10 dX4_learns_222 (fun r10a r10h => ?_)
      obtain ⟨q11, eq11, h⟩ := jx_bi_some h
      refine jv_cell_X4 hx hb hml hown hts hlv hV r10h eq11 (Nat.le_of_ble_eq_true rfl) hP hS hl.1 rfl rfl (lv_room (Nat.le_of_ble_eq_true rfl)) dX4_learns_223 (fun H locs hP hS => ?_)
      obtain ⟨j12, ej12, bj12, h⟩ := jx_ga_some h
      refine jf_lald hx hb hV hP (jf_aP9 ho) ej12 bj12 dX4_learns_226 ?_
      refine lv_aload_n hx hb dX4_learns_227 rfl (lv_at hl 0 rfl) ?_
      obtain ⟨q13, eq13, h⟩ := jx_bi_some h
      refine jf_callL hx hb hml hown hts hlv hV (jp_all_met ho eq13) jp_all_g_X4 jp_all_d (As := []) (Nat.le_of_ble_eq_true rfl) (Nat.le_of_ble_eq_true rfl) hP hS (ci := 3) (jf_oP ho) rfl hl.1 rfl rfl (lv_room (Nat.le_of_ble_eq_true rfl)) dX4_learns_228 (fun H locs hP hS => ?_)
      refine lv_land hx hb dX4_learns_231 ?_
      exact jp_learns_b232_ok hX F o ho hr59 _ _ _ _ h _ _ _ hP hS hl
    · rw [if_pos c8] at h
      refine lv_aload_n hx hb dX4_learns_204 rfl (lv_at hl 0 rfl) ?_
      refine jf_get hx hb hts in_X4 hown hV hP (ci := 3) (k := 10) (jf_oP ho) rfl (by decide) (hts _ q302) rfl rfl dX4_learns_205 ?_
      refine lv_iload_n hx hb dX4_learns_208 rfl (lv_at hl 1 rfl) ?_
      obtain ⟨j14, ej14, bj14, h⟩ := jx_ga_some h
      refine jf_lald hx hb hV hP (jf_aP10 ho) ej14 bj14 dX4_learns_209 ?_
      refine lv_goto (tgt := 232) hx hb dX4_learns_210 rfl ?_
      exact jp_learns_b232_ok hX F o ho hr59 _ _ _ _ h _ _ _ hP hS hl
  · rw [if_pos c4] at h
    refine lv_goto (tgt := 233) hx hb dX4_learns_176 rfl ?_
    exact jp_learns_b233_ok hX F o ho hr59 _ _ h _ _ _ hP hS hl
theorem jp_learns_L97_ok {out : jf_S} (hX : jf_Ok RX4 p R s m args meth c A D E cX4_learns 3 none 3) (F : Nat) (o : Nat) (ho : o = 3 ∨ o = 4) {r59 : Int32 × jf_S → Option (jf_S)} (hr59 : ∀ a, r59 a = some out → jf_J p l e R s m args below meth c A D E fo pl 3 (jf_Qv below args s A D E fo pl out) 59 [(0, .ref (E.1 o)), (1, .int a.1)] [] a.2) {r97 : Int32 × Int32 × jf_S → Option (jf_S)} (hr97 : ∀ a, r97 a = some out → jf_J p l e R s m args below meth c A D E fo pl 3 (jf_Qv below args s A D E fo pl out) 97 [(0, .ref (E.1 o)), (1, .int a.1), (2, .int a.2.1)] [] a.2.2) (x1 : Int32) (x2 : Int32) (S : jf_S) (h : jp_learns_L97 F o r59 r97 x1 x2 S = some out) : jf_J p l e R s m args below meth c A D E fo pl 3 (jf_Qv below args s A D E fo pl out) 97 [(0, .ref (E.1 o)), (1, .int x1), (2, .int x2)] [] S := by
  intro H locs ls hP hS hl
  have hX0 := hX
  obtain ⟨hx, hb, hml, hown, hts, hlk, hr, hlv, hV, het⟩ := hX0
  unfold jp_learns_L97 at h
  refine lv_iload_n hx hb dX4_learns_97 rfl (lv_at hl 2 rfl) ?_
  refine lv_aload_n hx hb dX4_learns_98 rfl (lv_at hl 0 rfl) ?_
  refine jf_get hx hb hts in_X4 hown hV hP (ci := 3) (k := 13) (jf_oP ho) rfl (by decide) (hts _ q308) rfl rfl dX4_learns_99 ?_
  refine lv_icmp_ge (tgt := 163) hx hb dX4_learns_102 rfl (fun c1 => ?_) (fun c1 => ?_)
  · rw [if_pos c1] at h
    exact jp_learns_b163_ok hX F o ho hr59 _ _ h _ _ _ hP hS (lv_sub hl [0, 1] rfl)
  · rw [if_neg c1] at h
    refine lv_aload_n hx hb dX4_learns_105 rfl (lv_at hl 0 rfl) ?_
    refine jf_get hx hb hts in_X4 hown hV hP (ci := 3) (k := 0) (jf_oP ho) rfl (by decide) (hts _ q275) rfl rfl dX4_learns_106 ?_
    refine lv_iload_n hx hb dX4_learns_109 rfl (lv_at hl 1 rfl) ?_
    obtain ⟨j2, ej2, bj2, h⟩ := jx_ga_some h
    obtain ⟨r3, er3, h⟩ := jx_bi_some h
    refine jf_qald hx hb hV hP (jf_aP0 ho) ej2 bj2 er3 dX4_learns_110 (fun r3a r3h => ?_)
    obtain ⟨q4, eq4, h⟩ := jx_bi_some h
    refine jv_word_X4 hx hb hml hown hts hlv hV r3h eq4 (Nat.le_of_ble_eq_true rfl) hP hS hl.1 rfl rfl (lv_room (Nat.le_of_ble_eq_true rfl)) dX4_learns_111 (fun H locs hP hS => ?_)
    refine lv_bipush hx hb dX4_learns_114 jx_kb7 ?_
    refine lv_icmp_eq (tgt := 163) hx hb dX4_learns_116 rfl (fun c5 => ?_) (fun c5 => ?_)
    · rw [if_pos c5] at h
      exact jp_learns_b163_ok hX F o ho hr59 _ _ h _ _ _ hP hS (lv_sub hl [0, 1] rfl)
    · rw [if_neg c5] at h
      refine lv_aload_n hx hb dX4_learns_119 rfl (lv_at hl 0 rfl) ?_
      refine jf_get hx hb hts in_X4 hown hV hP (ci := 3) (k := 10) (jf_oP ho) rfl (by decide) (hts _ q302) rfl rfl dX4_learns_120 ?_
      refine lv_iload_n hx hb dX4_learns_123 rfl (lv_at hl 1 rfl) ?_
      refine lv_dup2_11 hx hb dX4_learns_124 rfl rfl ?_
      obtain ⟨j6, ej6, bj6, h⟩ := jx_ga_some h
      refine jf_lald hx hb hV hP (jf_aP10 ho) ej6 bj6 dX4_learns_125 ?_
      refine lv_aload_n hx hb dX4_learns_126 rfl (lv_at hl 0 rfl) ?_
      refine jf_get hx hb hts in_X4 hown hV hP (ci := 3) (k := 0) (jf_oP ho) rfl (by decide) (hts _ q275) rfl rfl dX4_learns_127 ?_
      refine lv_iload_n hx hb dX4_learns_130 rfl (lv_at hl 2 rfl) ?_
      obtain ⟨j7, ej7, bj7, h⟩ := jx_ga_some h
      obtain ⟨r8, er8, h⟩ := jx_bi_some h
      refine jf_qald hx hb hV hP (jf_aP0 ho) ej7 bj7 er8 dX4_learns_131 (fun r8a r8h => ?_)
      refine jf_entry hx hb hts hown hV hP r8h (jf_l_X4_101 hV.2.2.1) dX4_learns_132 ?_
      refine lv_aload_n hx hb dX4_learns_135 rfl (lv_at hl 0 rfl) ?_
      refine jf_get hx hb hts in_X4 hown hV hP (ci := 3) (k := 0) (jf_oP ho) rfl (by decide) (hts _ q275) rfl rfl dX4_learns_136 ?_
      refine lv_iload_n hx hb dX4_learns_139 rfl (lv_at hl 1 rfl) ?_
      obtain ⟨j9, ej9, bj9, h⟩ := jx_ga_some h
      obtain ⟨r10, er10, h⟩ := jx_bi_some h
      refine jf_qald hx hb hV hP (jf_aP0 ho) ej9 bj9 er10 dX4_learns_140 (fun r10a r10h => ?_)
      obtain ⟨q11, eq11, h⟩ := jx_bi_some h
      refine jv_kind_X4 hx hb hml hown hts hlv hV r10h eq11 (Nat.le_of_ble_eq_true rfl) hP hS hl.1 rfl rfl (lv_room (Nat.le_of_ble_eq_true rfl)) dX4_learns_141 (fun H locs hP hS => ?_)
      refine lv_icmp_ne (tgt := 154) hx hb dX4_learns_144 rfl (fun c12 => ?_) (fun c12 => ?_)
      · rw [if_neg c12] at h
        refine lv_lconst hx hb dX4_learns_154 jx_kl0 ?_
        exact jp_learns_b155_ok hX F o ho hr59 hr97 _ _ _ _ _ _ h _ _ _ hP hS hl
      · rw [if_pos c12] at h
        refine lv_iload_n hx hb dX4_learns_147 rfl (lv_at hl 2 rfl) ?_
        obtain ⟨q13, eq13, h⟩ := jx_bi_some h
        refine jx_callSNl hx hb hml hown hts (jf_nm_X4_89 hV.2.2.1) (jf_bit_met eq13) jf_bit_c jf_bit_s jf_bit_i jf_bit_d (As := [.int x2]) (⟨Nat.le_trans (Nat.le_of_ble_eq_true rfl) hlv.1, Nat.le_trans (Nat.le_of_ble_eq_true rfl) hlv.2⟩) hl.1 rfl rfl (lv_room (Nat.le_of_ble_eq_true rfl)) dX4_learns_148 ⟨Nat.zero_le _, Nat.zero_le _⟩ ?_
        refine lv_goto (tgt := 155) hx hb dX4_learns_151 rfl ?_
        exact jp_learns_b155_ok hX F o ho hr59 hr97 _ _ _ _ _ _ h _ _ _ hP hS hl
theorem jp_learns_h97_ok {out : jf_S} (hX : jf_Ok RX4 p R s m args meth c A D E cX4_learns 3 none 3) (F : Nat) (o : Nat) (ho : o = 3 ∨ o = 4) {r59 : Int32 × jf_S → Option (jf_S)} (hr59 : ∀ a, r59 a = some out → jf_J p l e R s m args below meth c A D E fo pl 3 (jf_Qv below args s A D E fo pl out) 59 [(0, .ref (E.1 o)), (1, .int a.1)] [] a.2) (n : Nat) (a : Int32 × Int32 × jf_S) (h : jp_learns_h97 F o r59 n a = some out) : jf_J p l e R s m args below meth c A D E fo pl 3 (jf_Qv below args s A D E fo pl out) 97 [(0, .ref (E.1 o)), (1, .int a.1), (2, .int a.2.1)] [] a.2.2 :=
  jx_loop_ind (J := fun a => jf_J p l e R s m args below meth c A D E fo pl 3 (jf_Qv below args s A D E fo pl out) 97 [(0, .ref (E.1 o)), (1, .int a.1), (2, .int a.2.1)] [] a.2.2) (fun r hr a h => jp_learns_L97_ok hX F o ho hr59 hr a.1 a.2.1 a.2.2 h) n a h
theorem jp_learns_b94_ok {out : jf_S} (hX : jf_Ok RX4 p R s m args meth c A D E cX4_learns 3 none 3) (F : Nat) (o : Nat) (ho : o = 3 ∨ o = 4) {r59 : Int32 × jf_S → Option (jf_S)} (hr59 : ∀ a, r59 a = some out → jf_J p l e R s m args below meth c A D E fo pl 3 (jf_Qv below args s A D E fo pl out) 59 [(0, .ref (E.1 o)), (1, .int a.1)] [] a.2) (x1 : Int32) (k0 : Int64) (k1 : Int32) (S : jf_S) (h : jp_learns_b94 F o r59 x1 k0 k1 S = some out) : jf_J p l e R s m args below meth c A D E fo pl 3 (jf_Qv below args s A D E fo pl out) 94 [(0, .ref (E.1 o)), (1, .int x1)] [.long k0, .int k1, .ref (E.2.1 o 10)] S := by
  intro H locs ls hP hS hl
  have hX0 := hX
  obtain ⟨hx, hb, hml, hown, hts, hlk, hr, hlv, hV, het⟩ := hX0
  unfold jp_learns_b94 at h
  obtain ⟨j1, ej1, bj1, h⟩ := jx_ga_some h
  obtain ⟨S2, eS2, h⟩ := jx_nx_some h
  refine jf_last hx hb hV hP hS (jf_aP10 ho) ej1 bj1 eS2 dX4_learns_94 (fun H locs hP hS => ?_)
  refine lv_iconst hx hb dX4_learns_95 jx_ki0 ?_
  obtain ⟨y3, ey3, h⟩ := jx_nx_some h
  refine jx_topi ey3 ?_
  refine lv_istore_n (lv' := [(2, .int y3), (0, .ref (E.1 o)), (1, .int x1)]) hx hb dX4_learns_96 rfl hl (Nat.le_of_ble_eq_true rfl) rfl (fun ls hl => ?_)
  exact jp_learns_h97_ok hX F o ho hr59 F _ h _ _ _ hP hS (lv_sub hl [1, 2, 0] rfl)
theorem jp_learns_b301_ok {out : jf_S} (hX : jf_Ok RX4 p R s m args meth c A D E cX4_learns 3 none 3) (F : Nat) (o : Nat) (ho : o = 3 ∨ o = 4) {r268 : Int32 × jf_S → Option (jf_S)} (hr268 : ∀ a, r268 a = some out → jf_J p l e R s m args below meth c A D E fo pl 3 (jf_Qv below args s A D E fo pl out) 268 [(0, .ref (E.1 o)), (1, .int a.1)] [] a.2) (x1 : Int32) (S : jf_S) (h : jp_learns_b301 F o r268 x1 S = some out) : jf_J p l e R s m args below meth c A D E fo pl 3 (jf_Qv below args s A D E fo pl out) 301 [(0, .ref (E.1 o)), (1, .int x1)] [] S := by
  intro H locs ls hP hS hl
  have hX0 := hX
  obtain ⟨hx, hb, hml, hown, hts, hlk, hr, hlv, hV, het⟩ := hX0
  unfold jp_learns_b301 at h
  obtain ⟨y1, ey1, h⟩ := jx_nx_some h
  refine lv_iinc (v := y1) (lv' := [(1, .int y1), (0, .ref (E.1 o))]) hx hb dX4_learns_301 hl (k := 1) rfl (jx_inc jx_ki1 ey1) (Nat.le_of_ble_eq_true rfl) rfl (fun ls hl => ?_)
  refine lv_goto (tgt := 268) hx hb dX4_learns_304 rfl ?_
  exact hr268 _ h _ _ _ hP hS (lv_sub hl [1, 0] rfl)
theorem jp_learns_L268_ok {out : jf_S} (hX : jf_Ok RX4 p R s m args meth c A D E cX4_learns 3 none 3) (F : Nat) (o : Nat) (ho : o = 3 ∨ o = 4) {r268 : Int32 × jf_S → Option (jf_S)} (hr268 : ∀ a, r268 a = some out → jf_J p l e R s m args below meth c A D E fo pl 3 (jf_Qv below args s A D E fo pl out) 268 [(0, .ref (E.1 o)), (1, .int a.1)] [] a.2) (x1 : Int32) (S : jf_S) (h : jp_learns_L268 F o r268 x1 S = some out) : jf_J p l e R s m args below meth c A D E fo pl 3 (jf_Qv below args s A D E fo pl out) 268 [(0, .ref (E.1 o)), (1, .int x1)] [] S := by
  intro H locs ls hP hS hl
  have hX0 := hX
  obtain ⟨hx, hb, hml, hown, hts, hlk, hr, hlv, hV, het⟩ := hX0
  unfold jp_learns_L268 at h
  refine lv_iload_n hx hb dX4_learns_268 rfl (lv_at hl 1 rfl) ?_
  refine lv_aload_n hx hb dX4_learns_269 rfl (lv_at hl 0 rfl) ?_
  refine jf_get hx hb hts in_X4 hown hV hP (ci := 3) (k := 13) (jf_oP ho) rfl (by decide) (hts _ q308) rfl rfl dX4_learns_270 ?_
  refine lv_icmp_ge (tgt := 307) hx hb dX4_learns_273 rfl (fun c1 => ?_) (fun c1 => ?_)
  · rw [if_pos c1] at h
    exact jf_vret hx hb hr hlk hV hP hS h dX4_learns_307
  · rw [if_neg c1] at h
    refine lv_aload_n hx hb dX4_learns_276 rfl (lv_at hl 0 rfl) ?_
    refine jf_get hx hb hts in_X4 hown hV hP (ci := 3) (k := 0) (jf_oP ho) rfl (by decide) (hts _ q275) rfl rfl dX4_learns_277 ?_
    refine lv_iload_n hx hb dX4_learns_280 rfl (lv_at hl 1 rfl) ?_
    obtain ⟨j2, ej2, bj2, h⟩ := jx_ga_some h
    obtain ⟨r3, er3, h⟩ := jx_bi_some h
    refine jf_qald hx hb hV hP (jf_aP0 ho) ej2 bj2 er3 dX4_learns_281 (fun r3a r3h => ?_)
    obtain ⟨q4, eq4, h⟩ := jx_bi_some h
    refine jv_word_X4 hx hb hml hown hts hlv hV r3h eq4 (Nat.le_of_ble_eq_true rfl) hP hS hl.1 rfl rfl (lv_room (Nat.le_of_ble_eq_true rfl)) dX4_learns_282 (fun H locs hP hS => ?_)
    refine lv_bipush hx hb dX4_learns_285 jx_kb7 ?_
    refine lv_icmp_ne (tgt := 301) hx hb dX4_learns_287 rfl (fun c5 => ?_) (fun c5 => ?_)
    · rw [if_neg c5] at h
      exact jp_learns_b301_ok hX F o ho hr268 _ _ h _ _ _ hP hS hl
    · rw [if_pos c5] at h
      refine lv_aload_n hx hb dX4_learns_290 rfl (lv_at hl 0 rfl) ?_
      refine jf_get hx hb hts in_X4 hown hV hP (ci := 3) (k := 11) (jf_oP ho) rfl (by decide) (hts _ q304) rfl rfl dX4_learns_291 ?_
      refine lv_iload_n hx hb dX4_learns_294 rfl (lv_at hl 1 rfl) ?_
      refine lv_aload_n hx hb dX4_learns_295 rfl (lv_at hl 0 rfl) ?_
      refine lv_iload_n hx hb dX4_learns_296 rfl (lv_at hl 1 rfl) ?_
      obtain ⟨q6, eq6, h⟩ := jx_bi_some h
      refine jf_callL hx hb hml hown hts hlv hV (jp_backs_met ho eq6) jp_backs_g_X4 jp_backs_d (As := [.int x1]) (Nat.le_of_ble_eq_true rfl) (Nat.le_of_ble_eq_true rfl) hP hS (ci := 3) (jf_oP ho) rfl hl.1 rfl rfl (lv_room (Nat.le_of_ble_eq_true rfl)) dX4_learns_297 (fun H locs hP hS => ?_)
      obtain ⟨j7, ej7, bj7, h⟩ := jx_ga_some h
      obtain ⟨S8, eS8, h⟩ := jx_nx_some h
      refine jf_last hx hb hV hP hS (jf_aP11 ho) ej7 bj7 eS8 dX4_learns_300 (fun H locs hP hS => ?_)
      exact jp_learns_b301_ok hX F o ho hr268 _ _ h _ _ _ hP hS hl
theorem jp_learns_h268_ok {out : jf_S} (hX : jf_Ok RX4 p R s m args meth c A D E cX4_learns 3 none 3) (F : Nat) (o : Nat) (ho : o = 3 ∨ o = 4) (n : Nat) (a : Int32 × jf_S) (h : jp_learns_h268 F o n a = some out) : jf_J p l e R s m args below meth c A D E fo pl 3 (jf_Qv below args s A D E fo pl out) 268 [(0, .ref (E.1 o)), (1, .int a.1)] [] a.2 :=
  jx_loop_ind (J := fun a => jf_J p l e R s m args below meth c A D E fo pl 3 (jf_Qv below args s A D E fo pl out) 268 [(0, .ref (E.1 o)), (1, .int a.1)] [] a.2) (fun r hr a h => jp_learns_L268_ok hX F o ho hr a.1 a.2 h) n a h
theorem jp_learns_L241_ok {out : jf_S} (hX : jf_Ok RX4 p R s m args meth c A D E cX4_learns 3 none 3) (F : Nat) (o : Nat) (ho : o = 3 ∨ o = 4) {r241 : Int32 × jf_S → Option (jf_S)} (hr241 : ∀ a, r241 a = some out → jf_J p l e R s m args below meth c A D E fo pl 3 (jf_Qv below args s A D E fo pl out) 241 [(0, .ref (E.1 o)), (1, .int a.1)] [] a.2) (x1 : Int32) (S : jf_S) (h : jp_learns_L241 F o r241 x1 S = some out) : jf_J p l e R s m args below meth c A D E fo pl 3 (jf_Qv below args s A D E fo pl out) 241 [(0, .ref (E.1 o)), (1, .int x1)] [] S := by
  intro H locs ls hP hS hl
  have hX0 := hX
  obtain ⟨hx, hb, hml, hown, hts, hlk, hr, hlv, hV, het⟩ := hX0
  unfold jp_learns_L241 at h
  refine lv_iload_n hx hb dX4_learns_241 rfl (lv_at hl 1 rfl) ?_
  refine lv_aload_n hx hb dX4_learns_242 rfl (lv_at hl 0 rfl) ?_
  refine jf_get hx hb hts in_X4 hown hV hP (ci := 3) (k := 13) (jf_oP ho) rfl (by decide) (hts _ q308) rfl rfl dX4_learns_243 ?_
  refine lv_icmp_ge (tgt := 266) hx hb dX4_learns_246 rfl (fun c1 => ?_) (fun c1 => ?_)
  · rw [if_pos c1] at h
    refine lv_iconst hx hb dX4_learns_266 jx_ki0 ?_
    obtain ⟨y2, ey2, h⟩ := jx_nx_some h
    refine jx_topi ey2 ?_
    refine lv_istore_n (lv' := [(1, .int y2), (0, .ref (E.1 o))]) hx hb dX4_learns_267 rfl hl (Nat.le_of_ble_eq_true rfl) rfl (fun ls hl => ?_)
    exact jp_learns_h268_ok hX F o ho F _ h _ _ _ hP hS (lv_sub hl [1, 0] rfl)
  · rw [if_neg c1] at h
    refine lv_aload_n hx hb dX4_learns_249 rfl (lv_at hl 0 rfl) ?_
    refine jf_get hx hb hts in_X4 hown hV hP (ci := 3) (k := 12) (jf_oP ho) rfl (by decide) (hts _ q307) rfl rfl dX4_learns_250 ?_
    refine lv_iload_n hx hb dX4_learns_253 rfl (lv_at hl 1 rfl) ?_
    refine lv_aload_n hx hb dX4_learns_254 rfl (lv_at hl 0 rfl) ?_
    refine lv_iload_n hx hb dX4_learns_255 rfl (lv_at hl 1 rfl) ?_
    obtain ⟨q3, eq3, h⟩ := jx_bi_some h
    refine jf_callL hx hb hml hown hts hlv hV (jp_walks_met ho eq3) jp_walks_g_X4 jp_walks_d (As := [.int x1]) (Nat.le_of_ble_eq_true rfl) (Nat.le_of_ble_eq_true rfl) hP hS (ci := 3) (jf_oP ho) rfl hl.1 rfl rfl (lv_room (Nat.le_of_ble_eq_true rfl)) dX4_learns_256 (fun H locs hP hS => ?_)
    obtain ⟨j4, ej4, bj4, h⟩ := jx_ga_some h
    obtain ⟨S5, eS5, h⟩ := jx_nx_some h
    refine jf_last hx hb hV hP hS (jf_aP12 ho) ej4 bj4 eS5 dX4_learns_259 (fun H locs hP hS => ?_)
    obtain ⟨y6, ey6, h⟩ := jx_nx_some h
    refine lv_iinc (v := y6) (lv' := [(1, .int y6), (0, .ref (E.1 o))]) hx hb dX4_learns_260 hl (k := 1) rfl (jx_inc jx_ki1 ey6) (Nat.le_of_ble_eq_true rfl) rfl (fun ls hl => ?_)
    refine lv_goto (tgt := 241) hx hb dX4_learns_263 rfl ?_
    exact hr241 _ h _ _ _ hP hS (lv_sub hl [1, 0] rfl)
theorem jp_learns_h241_ok {out : jf_S} (hX : jf_Ok RX4 p R s m args meth c A D E cX4_learns 3 none 3) (F : Nat) (o : Nat) (ho : o = 3 ∨ o = 4) (n : Nat) (a : Int32 × jf_S) (h : jp_learns_h241 F o n a = some out) : jf_J p l e R s m args below meth c A D E fo pl 3 (jf_Qv below args s A D E fo pl out) 241 [(0, .ref (E.1 o)), (1, .int a.1)] [] a.2 :=
  jx_loop_ind (J := fun a => jf_J p l e R s m args below meth c A D E fo pl 3 (jf_Qv below args s A D E fo pl out) 241 [(0, .ref (E.1 o)), (1, .int a.1)] [] a.2) (fun r hr a h => jp_learns_L241_ok hX F o ho hr a.1 a.2 h) n a h
theorem jp_learns_L59_ok {out : jf_S} (hX : jf_Ok RX4 p R s m args meth c A D E cX4_learns 3 none 3) (F : Nat) (o : Nat) (ho : o = 3 ∨ o = 4) {r59 : Int32 × jf_S → Option (jf_S)} (hr59 : ∀ a, r59 a = some out → jf_J p l e R s m args below meth c A D E fo pl 3 (jf_Qv below args s A D E fo pl out) 59 [(0, .ref (E.1 o)), (1, .int a.1)] [] a.2) (x1 : Int32) (S : jf_S) (h : jp_learns_L59 F o r59 x1 S = some out) : jf_J p l e R s m args below meth c A D E fo pl 3 (jf_Qv below args s A D E fo pl out) 59 [(0, .ref (E.1 o)), (1, .int x1)] [] S := by
  intro H locs ls hP hS hl
  have hX0 := hX
  obtain ⟨hx, hb, hml, hown, hts, hlk, hr, hlv, hV, het⟩ := hX0
  unfold jp_learns_L59 at h
  refine lv_iload_n hx hb dX4_learns_59 rfl (lv_at hl 1 rfl) ?_
  refine lv_aload_n hx hb dX4_learns_60 rfl (lv_at hl 0 rfl) ?_
  refine jf_get hx hb hts in_X4 hown hV hP (ci := 3) (k := 13) (jf_oP ho) rfl (by decide) (hts _ q308) rfl rfl dX4_learns_61 ?_
  refine lv_icmp_ge (tgt := 239) hx hb dX4_learns_64 rfl (fun c1 => ?_) (fun c1 => ?_)
  · rw [if_pos c1] at h
    refine lv_iconst hx hb dX4_learns_239 jx_ki0 ?_
    obtain ⟨y2, ey2, h⟩ := jx_nx_some h
    refine jx_topi ey2 ?_
    refine lv_istore_n (lv' := [(1, .int y2), (0, .ref (E.1 o))]) hx hb dX4_learns_240 rfl hl (Nat.le_of_ble_eq_true rfl) rfl (fun ls hl => ?_)
    exact jp_learns_h241_ok hX F o ho F _ h _ _ _ hP hS (lv_sub hl [1, 0] rfl)
  · rw [if_neg c1] at h
    refine lv_aload_n hx hb dX4_learns_67 rfl (lv_at hl 0 rfl) ?_
    refine jf_get hx hb hts in_X4 hown hV hP (ci := 3) (k := 10) (jf_oP ho) rfl (by decide) (hts _ q302) rfl rfl dX4_learns_68 ?_
    refine lv_iload_n hx hb dX4_learns_71 rfl (lv_at hl 1 rfl) ?_
    refine lv_aload_n hx hb dX4_learns_72 rfl (lv_at hl 0 rfl) ?_
    refine jf_get hx hb hts in_X4 hown hV hP (ci := 3) (k := 0) (jf_oP ho) rfl (by decide) (hts _ q275) rfl rfl dX4_learns_73 ?_
    refine lv_iload_n hx hb dX4_learns_76 rfl (lv_at hl 1 rfl) ?_
    obtain ⟨j3, ej3, bj3, h⟩ := jx_ga_some h
    obtain ⟨r4, er4, h⟩ := jx_bi_some h
    refine jf_qald hx hb hV hP (jf_aP0 ho) ej3 bj3 er4 dX4_learns_77 (fun r4a r4h => ?_)
    obtain ⟨q5, eq5, h⟩ := jx_bi_some h
    refine jv_word_X4 hx hb hml hown hts hlv hV r4h eq5 (Nat.le_of_ble_eq_true rfl) hP hS hl.1 rfl rfl (lv_room (Nat.le_of_ble_eq_true rfl)) dX4_learns_78 (fun H locs hP hS => ?_)
    refine lv_bipush hx hb dX4_learns_81 jx_kb7 ?_
    refine lv_icmp_ne (tgt := 93) hx hb dX4_learns_83 rfl (fun c6 => ?_) (fun c6 => ?_)
    · rw [if_neg c6] at h
      refine lv_lconst hx hb dX4_learns_93 jx_kl0 ?_
      exact jp_learns_b94_ok hX F o ho hr59 _ _ _ _ h _ _ _ hP hS hl
    · rw [if_pos c6] at h
      refine lv_aload_n hx hb dX4_learns_86 rfl (lv_at hl 0 rfl) ?_
      refine jf_get hx hb hts in_X4 hown hV hP (ci := 3) (k := 18) (jf_oP ho) rfl (by decide) (hts _ q321) rfl rfl dX4_learns_87 ?_
      refine lv_goto (tgt := 94) hx hb dX4_learns_90 rfl ?_
      exact jp_learns_b94_ok hX F o ho hr59 _ _ _ _ h _ _ _ hP hS hl
theorem jp_learns_h59_ok {out : jf_S} (hX : jf_Ok RX4 p R s m args meth c A D E cX4_learns 3 none 3) (F : Nat) (o : Nat) (ho : o = 3 ∨ o = 4) (n : Nat) (a : Int32 × jf_S) (h : jp_learns_h59 F o n a = some out) : jf_J p l e R s m args below meth c A D E fo pl 3 (jf_Qv below args s A D E fo pl out) 59 [(0, .ref (E.1 o)), (1, .int a.1)] [] a.2 :=
  jx_loop_ind (J := fun a => jf_J p l e R s m args below meth c A D E fo pl 3 (jf_Qv below args s A D E fo pl out) 59 [(0, .ref (E.1 o)), (1, .int a.1)] [] a.2) (fun r hr a h => jp_learns_L59_ok hX F o ho hr a.1 a.2 h) n a h
theorem jp_learns_L11_ok {out : jf_S} (hX : jf_Ok RX4 p R s m args meth c A D E cX4_learns 3 none 3) (F : Nat) (o : Nat) (ho : o = 3 ∨ o = 4) {r11 : Int32 × jf_S → Option (jf_S)} (hr11 : ∀ a, r11 a = some out → jf_J p l e R s m args below meth c A D E fo pl 3 (jf_Qv below args s A D E fo pl out) 11 [(0, .ref (E.1 o)), (1, .int a.1)] [] a.2) (x1 : Int32) (S : jf_S) (h : jp_learns_L11 F o r11 x1 S = some out) : jf_J p l e R s m args below meth c A D E fo pl 3 (jf_Qv below args s A D E fo pl out) 11 [(0, .ref (E.1 o)), (1, .int x1)] [] S := by
  intro H locs ls hP hS hl
  have hX0 := hX
  obtain ⟨hx, hb, hml, hown, hts, hlk, hr, hlv, hV, het⟩ := hX0
  unfold jp_learns_L11 at h
  refine lv_iload_n hx hb dX4_learns_11 rfl (lv_at hl 1 rfl) ?_
  refine lv_aload_n hx hb dX4_learns_12 rfl (lv_at hl 0 rfl) ?_
  refine jf_get hx hb hts in_X4 hown hV hP (ci := 3) (k := 13) (jf_oP ho) rfl (by decide) (hts _ q308) rfl rfl dX4_learns_13 ?_
  refine lv_icmp_ge (tgt := 57) hx hb dX4_learns_16 rfl (fun c1 => ?_) (fun c1 => ?_)
  · rw [if_pos c1] at h
    refine lv_iconst hx hb dX4_learns_57 jx_ki0 ?_
    obtain ⟨y2, ey2, h⟩ := jx_nx_some h
    refine jx_topi ey2 ?_
    refine lv_istore_n (lv' := [(1, .int y2), (0, .ref (E.1 o))]) hx hb dX4_learns_58 rfl hl (Nat.le_of_ble_eq_true rfl) rfl (fun ls hl => ?_)
    exact jp_learns_h59_ok hX F o ho F _ h _ _ _ hP hS (lv_sub hl [1, 0] rfl)
  · rw [if_neg c1] at h
    refine lv_aload_n hx hb dX4_learns_19 rfl (lv_at hl 0 rfl) ?_
    refine jf_get hx hb hts in_X4 hown hV hP (ci := 3) (k := 0) (jf_oP ho) rfl (by decide) (hts _ q275) rfl rfl dX4_learns_20 ?_
    refine lv_iload_n hx hb dX4_learns_23 rfl (lv_at hl 1 rfl) ?_
    obtain ⟨j3, ej3, bj3, h⟩ := jx_ga_some h
    obtain ⟨r4, er4, h⟩ := jx_bi_some h
    refine jf_qald hx hb hV hP (jf_aP0 ho) ej3 bj3 er4 dX4_learns_24 (fun r4a r4h => ?_)
    obtain ⟨q5, eq5, h⟩ := jx_bi_some h
    refine jv_puts_X4 hx hb hml hown hts hlv hV r4h eq5 (Nat.le_of_ble_eq_true rfl) hP hS hl.1 rfl rfl (lv_room (Nat.le_of_ble_eq_true rfl)) dX4_learns_25 (fun H locs hP hS => ?_)
    refine lv_if_eq (tgt := 51) hx hb dX4_learns_28 rfl (fun c6 => ?_) (fun c6 => ?_)
    · rw [if_pos c6] at h
      exact jp_learns_b51_ok hX F o ho hr11 _ _ h _ _ _ hP hS hl
    · rw [if_neg c6] at h
      refine lv_aload_n hx hb dX4_learns_31 rfl (lv_at hl 0 rfl) ?_
      refine lv_dup hx hb dX4_learns_32 rfl ?_
      refine jf_get hx hb hts in_X4 hown hV hP (ci := 3) (k := 18) (jf_oP ho) rfl (by decide) (hts _ q321) rfl rfl dX4_learns_33 ?_
      refine lv_iload_n hx hb dX4_learns_36 rfl (lv_at hl 1 rfl) ?_
      refine lv_iconst hx hb dX4_learns_37 jx_ki1 ?_
      refine lv_iadd hx hb dX4_learns_38 ?_
      obtain ⟨q7, eq7, h⟩ := jx_bi_some h
      refine jx_callSNl hx hb hml hown hts (jf_nm_X4_89 hV.2.2.1) (jf_bit_met eq7) jf_bit_c jf_bit_s jf_bit_i jf_bit_d (As := [.int (x1 + (nI 1))]) (⟨Nat.le_trans (Nat.le_of_ble_eq_true rfl) hlv.1, Nat.le_trans (Nat.le_of_ble_eq_true rfl) hlv.2⟩) hl.1 rfl rfl (lv_room (Nat.le_of_ble_eq_true rfl)) dX4_learns_39 ⟨Nat.zero_le _, Nat.zero_le _⟩ ?_
      refine lv_aload_n hx hb dX4_learns_42 rfl (lv_at hl 0 rfl) ?_
      obtain ⟨q8, eq8, h⟩ := jx_bi_some h
      refine jf_callL hx hb hml hown hts hlv hV (jp_all_met ho eq8) jp_all_g_X4 jp_all_d (As := []) (Nat.le_of_ble_eq_true rfl) (Nat.le_of_ble_eq_true rfl) hP hS (ci := 3) (jf_oP ho) rfl hl.1 rfl rfl (lv_room (Nat.le_of_ble_eq_true rfl)) dX4_learns_43 (fun H locs hP hS => ?_)
      refine lv_land hx hb dX4_learns_46 ?_
      refine lv_lor hx hb dX4_learns_47 ?_
      obtain ⟨S9, eS9, h⟩ := jx_nx_some h
      refine jf_put (S1 := S9) hx hb hts in_X4 tyX4_ok nmX4 hown hV hP hS (ci := 3) (k := 18) (by rw [eS9]; rfl) (jf_oP ho) (by rw [eS9]; exact (jf_sP18 ho) _) rfl (by decide) (hts _ q321) rfl rfl (tyX4_ok 18 (by decide)) ⟨rfl, rfl⟩ (Nat.le_of_ble_eq_true rfl) dX4_learns_48 (fun H locs hP hS => ?_)
      exact jp_learns_b51_ok hX F o ho hr11 _ _ h _ _ _ hP hS hl
theorem jp_learns_h11_ok {out : jf_S} (hX : jf_Ok RX4 p R s m args meth c A D E cX4_learns 3 none 3) (F : Nat) (o : Nat) (ho : o = 3 ∨ o = 4) (n : Nat) (a : Int32 × jf_S) (h : jp_learns_h11 F o n a = some out) : jf_J p l e R s m args below meth c A D E fo pl 3 (jf_Qv below args s A D E fo pl out) 11 [(0, .ref (E.1 o)), (1, .int a.1)] [] a.2 :=
  jx_loop_ind (J := fun a => jf_J p l e R s m args below meth c A D E fo pl 3 (jf_Qv below args s A D E fo pl out) 11 [(0, .ref (E.1 o)), (1, .int a.1)] [] a.2) (fun r hr a h => jp_learns_L11_ok hX F o ho hr a.1 a.2 h) n a h
theorem jp_learns_ok {out : jf_S} (hX : jf_Ok RX4 p R s m args meth c A D E cX4_learns 3 none 3) (F : Nat) (o : Nat) (ho : o = 3 ∨ o = 4)  (S : jf_S) (h : jp_learns F o  S = some out) : jf_J p l e R s m args below meth c A D E fo pl 3 (jf_Qv below args s A D E fo pl out) 0 [(0, .ref (E.1 o))] [] S := by
  intro H locs ls hP hS hl
  have hX0 := hX
  obtain ⟨hx, hb, hml, hown, hts, hlk, hr, hlv, hV, het⟩ := hX0
  unfold jp_learns at h
  refine lv_aload_n hx hb dX4_learns_0 rfl (lv_at hl 0 rfl) ?_
  obtain ⟨q1, eq1, h⟩ := jx_bi_some h
  refine jf_callV hx hb hml hown hts hlv hV (jp_cells_met ho eq1) jp_cells_g_X4 jp_cells_d (As := []) (Nat.le_of_ble_eq_true rfl) (Nat.le_of_ble_eq_true rfl) hP hS (ci := 3) (jf_oP ho) rfl hl.1 rfl rfl (lv_room (Nat.le_of_ble_eq_true rfl)) dX4_learns_1 (fun H locs hP hS => ?_)
  refine lv_aload_n hx hb dX4_learns_4 rfl (lv_at hl 0 rfl) ?_
  refine lv_lconst hx hb dX4_learns_5 jx_kl0 ?_
  obtain ⟨S2, eS2, h⟩ := jx_nx_some h
  refine jf_put (S1 := S2) hx hb hts in_X4 tyX4_ok nmX4 hown hV hP hS (ci := 3) (k := 18) (by rw [eS2]; rfl) (jf_oP ho) (by rw [eS2]; exact (jf_sP18 ho) _) rfl (by decide) (hts _ q321) rfl rfl (tyX4_ok 18 (by decide)) ⟨rfl, rfl⟩ (Nat.le_of_ble_eq_true rfl) dX4_learns_6 (fun H locs hP hS => ?_)
  refine lv_iconst hx hb dX4_learns_9 jx_ki0 ?_
  obtain ⟨y3, ey3, h⟩ := jx_nx_some h
  refine jx_topi ey3 ?_
  refine lv_istore_n (lv' := [(1, .int y3), (0, .ref (E.1 o))]) hx hb dX4_learns_10 rfl hl (Nat.le_of_ble_eq_true rfl) rfl (fun ls hl => ?_)
  exact jp_learns_h11_ok hX F o ho F _ h _ _ _ hP hS (lv_sub hl [1, 0] rfl)
theorem jp_learns_met {l : Launch} {D : va_G} {E : jf_E} {A : Nat → Prop} {fo : Nat → Nat → Option Nat} {pl : va_W} {F : Nat} {o : Nat} (ho : o = 3 ∨ o = 4)  {S : jf_S} {out : jf_S} (h : jp_learns F o  S = some out) : jf_Mv l D E A fo pl yX4_learns cX4_learns 3 none 3 [.ref (E.1 o)] S out :=
  jf_Mv_of (own := RX4) ⟨by decide, rfl, Nat.le_of_ble_eq_true rfl⟩ (fun hX => jp_learns_ok hX F o ho  S h)
theorem jo17_mayDo_g_X4 : GoodIn lw_all (wsV RX4 152 RX17 yX17_mayDo (ws_ yX17_mayDo cX17_mayDo 2 (some .boolean))) := lw_V q878 q879 q880 q125 q881
theorem jo17_mayDo_d : yX17_mayDo.cls = RX17 ∧ yX17_mayDo.cls ≠ "java/lang/invoke/MethodHandle" ∧ yX17_mayDo.cls ≠ "java/lang/invoke/VarHandle" ∧ (parseMethodDescriptor yX17_mayDo.desc).map (fun d => d.parameters.length) = some 1 := by decide +kernel
theorem jo17_mayDo_ok {out : Int32 × jf_S} (hX : jf_Ok RX17 p R s m args meth c A D E cX17_mayDo 2 (some .boolean) 0) (F : Nat) (x0 : jo_R) {x0a : Nat} (x0h : jo_m8 pl x0a x0) (x1 : Int32) (S : jf_S) (h : jo17_mayDo F x0 x1 S = some out) : jf_J p l e R s m args below meth c A D E fo pl 2 (jf_Qi below args s A D E fo pl out) 0 [(0, .ref x0a), (1, .int x1)] [] S := by
  intro H locs ls hP hS hl
  have hX0 := hX
  obtain ⟨hx, hb, hml, hown, hts, hlk, hr, hlv, hV, het⟩ := hX0
  unfold jo17_mayDo at h
  refine lv_aload_n hx hb dX17_mayDo_0 rfl (lv_at hl 0 rfl) ?_
  obtain ⟨q1, bq1, hq1, aq1⟩ := jo_f8 (E := E) (S := S) (fo := fo) x0h
  refine jf_get hx hb hts in_X17 hown hV hP (ci := 14) (k := 1) hq1 rfl (by decide) (hts _ q1198) rfl rfl dX17_mayDo_1 ?_
  obtain ⟨q2, hq2⟩ := jf_pool (E := E) (S := S) (fo := fo) aq1
  refine jf_getN hx hb hts in_X7 hown hV hP (ci := 5) (k := 0) hq2 rfl (by decide) (jf_l_X17_15 hV.2.2.1) rfl rfl dX17_mayDo_4 ?_
  refine lv_iconst hx hb dX17_mayDo_7 jx_kim1 ?_
  refine lv_icmp_ne (tgt := 22) hx hb dX17_mayDo_8 rfl (fun c3 => ?_) (fun c3 => ?_)
  · rw [if_neg c3] at h
    refine lv_iconst hx hb dX17_mayDo_22 jx_ki1 ?_
    refine lv_goto (tgt := 27) hx hb dX17_mayDo_23 rfl ?_
    exact jf_zret hx hb hr hlk hV hP hS jx_nz1 h dX17_mayDo_27
  · rw [if_pos c3] at h
    refine lv_aload_n hx hb dX17_mayDo_11 rfl (lv_at hl 0 rfl) ?_
    obtain ⟨q4, bq4, hq4, aq4⟩ := jo_f8 (E := E) (S := S) (fo := fo) x0h
    refine jf_get hx hb hts in_X17 hown hV hP (ci := 14) (k := 1) hq4 rfl (by decide) (hts _ q1198) rfl rfl dX17_mayDo_12 ?_
    obtain ⟨q5, hq5⟩ := jf_pool (E := E) (S := S) (fo := fo) aq4
    refine jf_getN hx hb hts in_X7 hown hV hP (ci := 5) (k := 1) hq5 rfl (by decide) (jf_l_X17_21 hV.2.2.1) rfl rfl dX17_mayDo_15 ?_
    refine lv_iload_n hx hb dX17_mayDo_18 rfl (lv_at hl 1 rfl) ?_
    refine lv_icmp_ne (tgt := 26) hx hb dX17_mayDo_19 rfl (fun c6 => ?_) (fun c6 => ?_)
    · rw [if_neg c6] at h
      refine lv_iconst hx hb dX17_mayDo_26 jx_ki0 ?_
      exact jf_zret hx hb hr hlk hV hP hS jx_nz0 h dX17_mayDo_27
    · rw [if_pos c6] at h
      refine lv_iconst hx hb dX17_mayDo_22 jx_ki1 ?_
      refine lv_goto (tgt := 27) hx hb dX17_mayDo_23 rfl ?_
      exact jf_zret hx hb hr hlk hV hP hS jx_nz1 h dX17_mayDo_27
theorem jo17_mayDo_met {l : Launch} {D : va_G} {E : jf_E} {A : Nat → Prop} {fo : Nat → Nat → Option Nat} {pl : va_W} {F : Nat} {x0 : jo_R} {x0a : Nat} (x0h : jo_m8 pl x0a x0) {x1 : Int32} {S : jf_S} {out : Int32 × jf_S} (h : jo17_mayDo F x0 x1 S = some out) : jf_Mi l D E A fo pl yX17_mayDo cX17_mayDo 2 (some .boolean) 0 [.ref x0a, .int x1] S out :=
  jf_Mi_of (own := RX17) ⟨by decide, rfl, Nat.le_of_ble_eq_true rfl⟩ (fun hX => jo17_mayDo_ok hX F x0 x0h x1 S h)
theorem jp_doors_g_X1 : GoodIn lw_all (wsV RX1 240 RX4 yX4_doors (ws_ yX4_doors cX4_doors 5 (some .long))) := lw_V q873 q874 q875 q108 q876
theorem jp_doors_d : yX4_doors.cls = RX4 ∧ yX4_doors.cls ≠ "java/lang/invoke/MethodHandle" ∧ yX4_doors.cls ≠ "java/lang/invoke/VarHandle" ∧ (parseMethodDescriptor yX4_doors.desc).map (fun d => d.parameters.length) = some 1 := by decide +kernel
theorem jp_doors_b59_ok {out : Int64 × jf_S} (hX : jf_Ok RX4 p R s m args meth c A D E cX4_doors 5 (some .long) 1) (F : Nat) (o : Nat) (ho : o = 3 ∨ o = 4) {r5 : Int32 × Int64 × Int32 × jf_S → Option (Int64 × jf_S)} (hr5 : ∀ a, r5 a = some out → jf_J p l e R s m args below meth c A D E fo pl 5 (jf_Ql below args s A D E fo pl out) 5 [(0, .ref (E.1 o)), (1, .int a.1), (2, .long a.2.1), (4, .int a.2.2.1)] [] a.2.2.2) (x1 : Int32) (x2 : Int64) (x4 : Int32) (S : jf_S) (h : jp_doors_b59 F o r5 x1 x2 x4 S = some out) : jf_J p l e R s m args below meth c A D E fo pl 5 (jf_Ql below args s A D E fo pl out) 59 [(0, .ref (E.1 o)), (1, .int x1), (2, .long x2), (4, .int x4)] [] S := by
  intro H locs ls hP hS hl
  have hX0 := hX
  obtain ⟨hx, hb, hml, hown, hts, hlk, hr, hlv, hV, het⟩ := hX0
  unfold jp_doors_b59 at h
  obtain ⟨y1, ey1, h⟩ := jx_nx_some h
  refine lv_iinc (v := y1) (lv' := [(4, .int y1), (0, .ref (E.1 o)), (1, .int x1), (2, .long x2)]) hx hb dX4_doors_59 hl (k := 3) rfl (jx_inc jx_ki1 ey1) (Nat.le_of_ble_eq_true rfl) rfl (fun ls hl => ?_)
  refine lv_goto (tgt := 5) hx hb dX4_doors_62 rfl ?_
  exact hr5 _ h _ _ _ hP hS (lv_sub hl [1, 2, 3, 0] rfl)
theorem jp_doors_L5_ok {out : Int64 × jf_S} (hX : jf_Ok RX4 p R s m args meth c A D E cX4_doors 5 (some .long) 1) (F : Nat) (o : Nat) (ho : o = 3 ∨ o = 4) {r5 : Int32 × Int64 × Int32 × jf_S → Option (Int64 × jf_S)} (hr5 : ∀ a, r5 a = some out → jf_J p l e R s m args below meth c A D E fo pl 5 (jf_Ql below args s A D E fo pl out) 5 [(0, .ref (E.1 o)), (1, .int a.1), (2, .long a.2.1), (4, .int a.2.2.1)] [] a.2.2.2) (x1 : Int32) (x2 : Int64) (x4 : Int32) (S : jf_S) (h : jp_doors_L5 F o r5 x1 x2 x4 S = some out) : jf_J p l e R s m args below meth c A D E fo pl 5 (jf_Ql below args s A D E fo pl out) 5 [(0, .ref (E.1 o)), (1, .int x1), (2, .long x2), (4, .int x4)] [] S := by
  intro H locs ls hP hS hl
  have hX0 := hX
  obtain ⟨hx, hb, hml, hown, hts, hlk, hr, hlv, hV, het⟩ := hX0
  unfold jp_doors_L5 at h
  refine lv_iload hx hb dX4_doors_5 (lv_at hl 3 rfl) ?_
  refine lv_aload_n hx hb dX4_doors_7 rfl (lv_at hl 0 rfl) ?_
  refine jf_get hx hb hts in_X4 hown hV hP (ci := 3) (k := 13) (jf_oP ho) rfl (by decide) (hts _ q308) rfl rfl dX4_doors_8 ?_
  refine lv_icmp_ge (tgt := 65) hx hb dX4_doors_11 rfl (fun c1 => ?_) (fun c1 => ?_)
  · rw [if_pos c1] at h
    refine lv_lload_n hx hb dX4_doors_65 rfl (lv_at hl 2 rfl) ?_
    exact jf_lret hx hb hr hlk hV hP hS h dX4_doors_66
  · rw [if_neg c1] at h
    refine lv_aload_n hx hb dX4_doors_14 rfl (lv_at hl 0 rfl) ?_
    refine jf_get hx hb hts in_X4 hown hV hP (ci := 3) (k := 0) (jf_oP ho) rfl (by decide) (hts _ q275) rfl rfl dX4_doors_15 ?_
    refine lv_iload hx hb dX4_doors_18 (lv_at hl 3 rfl) ?_
    obtain ⟨j2, ej2, bj2, h⟩ := jx_ga_some h
    obtain ⟨r3, er3, h⟩ := jx_bi_some h
    refine jf_qald hx hb hV hP (jf_aP0 ho) ej2 bj2 er3 dX4_doors_20 (fun r3a r3h => ?_)
    obtain ⟨q4, eq4, h⟩ := jx_bi_some h
    refine jv_word_X4 hx hb hml hown hts hlv hV r3h eq4 (Nat.le_of_ble_eq_true rfl) hP hS hl.1 rfl rfl (lv_room (Nat.le_of_ble_eq_true rfl)) dX4_doors_21 (fun H locs hP hS => ?_)
    refine lv_bipush hx hb dX4_doors_24 jx_kb8 ?_
    refine lv_icmp_ne (tgt := 59) hx hb dX4_doors_26 rfl (fun c5 => ?_) (fun c5 => ?_)
    · rw [if_neg c5] at h
      exact jp_doors_b59_ok hX F o ho hr5 _ _ _ _ h _ _ _ hP hS hl
    · rw [if_pos c5] at h
      refine lv_aload_n hx hb dX4_doors_29 rfl (lv_at hl 0 rfl) ?_
      refine jf_get hx hb hts in_X4 hown hV hP (ci := 3) (k := 0) (jf_oP ho) rfl (by decide) (hts _ q275) rfl rfl dX4_doors_30 ?_
      refine lv_iload hx hb dX4_doors_33 (lv_at hl 3 rfl) ?_
      obtain ⟨j6, ej6, bj6, h⟩ := jx_ga_some h
      obtain ⟨r7, er7, h⟩ := jx_bi_some h
      refine jf_qald hx hb hV hP (jf_aP0 ho) ej6 bj6 er7 dX4_doors_35 (fun r7a r7h => ?_)
      obtain ⟨e8, h⟩ := jx_ge_some h
      have m9 := jo_is8 r7h e8
      obtain ⟨q10, _, hq10, _⟩ := jo_f8 (E := E) (S := q4.2) (fo := fo) m9
      refine va_castS hx hb hown (hts _ q877) (hV.1.1 14 _ rfl).2 (va_recv hV.1 hP.1 (ci := 14) rfl hq10) dX4_doors_36 ?_
      refine lv_aload_n hx hb dX4_doors_39 rfl (lv_at hl 0 rfl) ?_
      refine jf_get hx hb hts in_X4 hown hV hP (ci := 3) (k := 4) (jf_oP ho) rfl (by decide) (hts _ q286) rfl rfl dX4_doors_40 ?_
      refine lv_iload_n hx hb dX4_doors_43 rfl (lv_at hl 1 rfl) ?_
      obtain ⟨j11, ej11, bj11, h⟩ := jx_ga_some h
      refine jf_iald hx hb hV hP (jf_aP4 ho) ej11 bj11 dX4_doors_44 ?_
      obtain ⟨q12, eq12, h⟩ := jx_bi_some h
      obtain ⟨q13, _, hq13, _⟩ := jo_f8 (E := E) (S := q4.2) (fo := fo) m9
      refine jf_callI hx hb hml hown hts hlv hV (jo17_mayDo_met m9 eq12) jo17_mayDo_g_X4 jo17_mayDo_d (As := [.int (q4.2.2.2.1 o 4 j11)]) (Nat.le_of_ble_eq_true rfl) (Nat.le_of_ble_eq_true rfl) hP hS (ci := 14) hq13 rfl hl.1 rfl rfl (lv_room (Nat.le_of_ble_eq_true rfl)) dX4_doors_45 (fun H locs hP hS => ?_)
      refine lv_if_eq (tgt := 59) hx hb dX4_doors_48 rfl (fun c14 => ?_) (fun c14 => ?_)
      · rw [if_pos c14] at h
        exact jp_doors_b59_ok hX F o ho hr5 _ _ _ _ h _ _ _ hP hS hl
      · rw [if_neg c14] at h
        refine lv_lload_n hx hb dX4_doors_51 rfl (lv_at hl 2 rfl) ?_
        refine lv_iload hx hb dX4_doors_52 (lv_at hl 3 rfl) ?_
        obtain ⟨q15, eq15, h⟩ := jx_bi_some h
        refine jx_callSNl hx hb hml hown hts (jf_nm_X4_89 hV.2.2.1) (jf_bit_met eq15) jf_bit_c jf_bit_s jf_bit_i jf_bit_d (As := [.int x4]) (⟨Nat.le_trans (Nat.le_of_ble_eq_true rfl) hlv.1, Nat.le_trans (Nat.le_of_ble_eq_true rfl) hlv.2⟩) hl.1 rfl rfl (lv_room (Nat.le_of_ble_eq_true rfl)) dX4_doors_54 ⟨Nat.zero_le _, Nat.zero_le _⟩ ?_
        refine lv_lor hx hb dX4_doors_57 ?_
        obtain ⟨y16, ey16, h⟩ := jx_nx_some h
        refine jx_topl ey16 ?_
        refine lv_lstore_n (lv' := [(2, .long y16), (0, .ref (E.1 o)), (1, .int x1), (4, .int x4)]) hx hb dX4_doors_58 rfl hl (Nat.le_of_ble_eq_true rfl) rfl (fun ls hl => ?_)
        exact jp_doors_b59_ok hX F o ho hr5 _ _ _ _ h _ _ _ hP hS (lv_sub hl [1, 2, 0, 3] rfl)
theorem jp_doors_h5_ok {out : Int64 × jf_S} (hX : jf_Ok RX4 p R s m args meth c A D E cX4_doors 5 (some .long) 1) (F : Nat) (o : Nat) (ho : o = 3 ∨ o = 4) (n : Nat) (a : Int32 × Int64 × Int32 × jf_S) (h : jp_doors_h5 F o n a = some out) : jf_J p l e R s m args below meth c A D E fo pl 5 (jf_Ql below args s A D E fo pl out) 5 [(0, .ref (E.1 o)), (1, .int a.1), (2, .long a.2.1), (4, .int a.2.2.1)] [] a.2.2.2 :=
  jx_loop_ind (J := fun a => jf_J p l e R s m args below meth c A D E fo pl 5 (jf_Ql below args s A D E fo pl out) 5 [(0, .ref (E.1 o)), (1, .int a.1), (2, .long a.2.1), (4, .int a.2.2.1)] [] a.2.2.2) (fun r hr a h => jp_doors_L5_ok hX F o ho hr a.1 a.2.1 a.2.2.1 a.2.2.2 h) n a h
theorem jp_doors_ok {out : Int64 × jf_S} (hX : jf_Ok RX4 p R s m args meth c A D E cX4_doors 5 (some .long) 1) (F : Nat) (o : Nat) (ho : o = 3 ∨ o = 4) (x1 : Int32) (S : jf_S) (h : jp_doors F o x1 S = some out) : jf_J p l e R s m args below meth c A D E fo pl 5 (jf_Ql below args s A D E fo pl out) 0 [(0, .ref (E.1 o)), (1, .int x1)] [] S := by
  intro H locs ls hP hS hl
  have hX0 := hX
  obtain ⟨hx, hb, hml, hown, hts, hlk, hr, hlv, hV, het⟩ := hX0
  unfold jp_doors at h
  refine lv_lconst hx hb dX4_doors_0 jx_kl0 ?_
  obtain ⟨y1, ey1, h⟩ := jx_nx_some h
  refine jx_topl ey1 ?_
  refine lv_lstore_n (lv' := [(2, .long y1), (0, .ref (E.1 o)), (1, .int x1)]) hx hb dX4_doors_1 rfl hl (Nat.le_of_ble_eq_true rfl) rfl (fun ls hl => ?_)
  refine lv_iconst hx hb dX4_doors_2 jx_ki0 ?_
  obtain ⟨y2, ey2, h⟩ := jx_nx_some h
  refine jx_topi ey2 ?_
  refine lv_istore (lv' := [(4, .int y2), (2, .long y1), (0, .ref (E.1 o)), (1, .int x1)]) hx hb dX4_doors_3 hl (Nat.le_of_ble_eq_true rfl) rfl (fun ls hl => ?_)
  exact jp_doors_h5_ok hX F o ho F _ h _ _ _ hP hS (lv_sub hl [2, 3, 1, 0] rfl)
theorem jp_doors_met {l : Launch} {D : va_G} {E : jf_E} {A : Nat → Prop} {fo : Nat → Nat → Option Nat} {pl : va_W} {F : Nat} {o : Nat} (ho : o = 3 ∨ o = 4) {x1 : Int32} {S : jf_S} {out : Int64 × jf_S} (h : jp_doors F o x1 S = some out) : jf_Ml l D E A fo pl yX4_doors cX4_doors 5 (some .long) 1 [.ref (E.1 o), .int x1] S out :=
  jf_Ml_of (own := RX4) ⟨by decide, rfl, Nat.le_of_ble_eq_true rfl⟩ (fun hX => jp_doors_ok hX F o ho x1 S h)
theorem jo8_may_d : yX8_may.cls = RX8 ∧ yX8_may.cls ≠ "java/lang/invoke/MethodHandle" ∧ yX8_may.cls ≠ "java/lang/invoke/VarHandle" ∧ (parseMethodDescriptor yX8_may.desc).map (fun d => d.parameters.length) = some 5 := by decide +kernel
theorem jo8_may_ok {out : Int64 × jf_S} (hX : jf_Ok RX8 p R s m args meth c A D E cX8_may 6 (some .long) 1) (F : Nat) (o : Nat) (ho : o = 3 ∨ o = 4) (go gk : Nat) (hga : jf_G go gk) (x0 : jo_R) {x0a : Nat} (x2 : Int32) (x4 : Int32) (x5 : Int32) (S : jf_S) (h : jo8_may F o go gk x0 x2 x4 x5 S = some out) : jf_J p l e R s m args below meth c A D E fo pl 6 (jf_Ql below args s A D E fo pl out) 0 [(0, .ref x0a), (1, .ref (E.1 o)), (2, .int x2), (3, .ref (E.2.1 go gk)), (4, .int x4), (5, .int x5)] [] S := by
  intro H locs ls hP hS hl
  have hX0 := hX
  obtain ⟨hx, hb, hml, hown, hts, hlk, hr, hlv, hV, het⟩ := hX0
  unfold jo8_may at h
  refine lv_iload_n hx hb dX8_may_0 rfl (lv_at hl 2 rfl) ?_
  refine lv_iconst hx hb dX8_may_1 jx_ki1 ?_
  refine lv_iadd hx hb dX8_may_2 ?_
  obtain ⟨q1, eq1, h⟩ := jx_bi_some h
  refine jx_callSNl hx hb hml hown hts (jf_nm_X8_15 hV.2.2.1) (jf_bit_met eq1) jf_bit_c jf_bit_s jf_bit_i jf_bit_d (As := [.int (x2 + (nI 1))]) (⟨Nat.le_trans (Nat.le_of_ble_eq_true rfl) hlv.1, Nat.le_trans (Nat.le_of_ble_eq_true rfl) hlv.2⟩) hl.1 rfl rfl (lv_room (Nat.le_of_ble_eq_true rfl)) dX8_may_3 ⟨Nat.zero_le _, Nat.zero_le _⟩ ?_
  exact jf_lret hx hb hr hlk hV hP hS h dX8_may_6
theorem jo8_may_met {l : Launch} {D : va_G} {E : jf_E} {A : Nat → Prop} {fo : Nat → Nat → Option Nat} {pl : va_W} {F : Nat} {o : Nat} (ho : o = 3 ∨ o = 4) {go gk : Nat} (hga : jf_G go gk) {x0 : jo_R} {x0a : Nat} {x2 : Int32} {x4 : Int32} {x5 : Int32} {S : jf_S} {out : Int64 × jf_S} (h : jo8_may F o go gk x0 x2 x4 x5 S = some out) : jf_Ml l D E A fo pl yX8_may cX8_may 6 (some .long) 1 [.ref x0a, .ref (E.1 o), .int x2, .ref (E.2.1 go gk), .int x4, .int x5] S out :=
  jf_Ml_of (own := RX8) ⟨by decide, rfl, Nat.le_of_ble_eq_true rfl⟩ (fun hX => jo8_may_ok hX F o ho go gk hga x0 x2 x4 x5 S h)
theorem jo11_may_d : yX11_may.cls = RX11 ∧ yX11_may.cls ≠ "java/lang/invoke/MethodHandle" ∧ yX11_may.cls ≠ "java/lang/invoke/VarHandle" ∧ (parseMethodDescriptor yX11_may.desc).map (fun d => d.parameters.length) = some 5 := by decide +kernel
theorem jo11_may_ok {out : Int64 × jf_S} (hX : jf_Ok RX11 p R s m args meth c A D E cX11_may 6 (some .long) 1) (F : Nat) (o : Nat) (ho : o = 3 ∨ o = 4) (go gk : Nat) (hga : jf_G go gk) (x0 : jo_R) {x0a : Nat} (x0h : jo_m2 pl x0a x0) (x2 : Int32) (x4 : Int32) (x5 : Int32) (S : jf_S) (h : jo11_may F o go gk x0 x2 x4 x5 S = some out) : jf_J p l e R s m args below meth c A D E fo pl 6 (jf_Ql below args s A D E fo pl out) 0 [(0, .ref x0a), (1, .ref (E.1 o)), (2, .int x2), (3, .ref (E.2.1 go gk)), (4, .int x4), (5, .int x5)] [] S := by
  intro H locs ls hP hS hl
  have hX0 := hX
  obtain ⟨hx, hb, hml, hown, hts, hlk, hr, hlv, hV, het⟩ := hX0
  unfold jo11_may at h
  refine lv_aload_n hx hb dX11_may_0 rfl (lv_at hl 0 rfl) ?_
  obtain ⟨q1, hq1⟩ := jf_pool (E := E) (S := S) (fo := fo) x0h
  refine jf_get hx hb hts in_X11 hown hV hP (ci := 8) (k := 1) hq1 rfl (by decide) (hts _ q1112) rfl rfl dX11_may_1 ?_
  obtain ⟨q2, eq2, h⟩ := jx_bi_some h
  refine jx_callSNl hx hb hml hown hts (jf_nm_X11_15 hV.2.2.1) (jf_bit_met eq2) jf_bit_c jf_bit_s jf_bit_i jf_bit_d (As := [.int (x0 4)]) (⟨Nat.le_trans (Nat.le_of_ble_eq_true rfl) hlv.1, Nat.le_trans (Nat.le_of_ble_eq_true rfl) hlv.2⟩) hl.1 rfl rfl (lv_room (Nat.le_of_ble_eq_true rfl)) dX11_may_4 ⟨Nat.zero_le _, Nat.zero_le _⟩ ?_
  exact jf_lret hx hb hr hlk hV hP hS h dX11_may_7
theorem jo11_may_met {l : Launch} {D : va_G} {E : jf_E} {A : Nat → Prop} {fo : Nat → Nat → Option Nat} {pl : va_W} {F : Nat} {o : Nat} (ho : o = 3 ∨ o = 4) {go gk : Nat} (hga : jf_G go gk) {x0 : jo_R} {x0a : Nat} (x0h : jo_m2 pl x0a x0) {x2 : Int32} {x4 : Int32} {x5 : Int32} {S : jf_S} {out : Int64 × jf_S} (h : jo11_may F o go gk x0 x2 x4 x5 S = some out) : jf_Ml l D E A fo pl yX11_may cX11_may 6 (some .long) 1 [.ref x0a, .ref (E.1 o), .int x2, .ref (E.2.1 go gk), .int x4, .int x5] S out :=
  jf_Ml_of (own := RX11) ⟨by decide, rfl, Nat.le_of_ble_eq_true rfl⟩ (fun hX => jo11_may_ok hX F o ho go gk hga x0 x0h x2 x4 x5 S h)
theorem jo12_may_d : yX12_may.cls = RX12 ∧ yX12_may.cls ≠ "java/lang/invoke/MethodHandle" ∧ yX12_may.cls ≠ "java/lang/invoke/VarHandle" ∧ (parseMethodDescriptor yX12_may.desc).map (fun d => d.parameters.length) = some 5 := by decide +kernel
theorem jo12_may_b22_ok {out : Int64 × jf_S} (hX : jf_Ok RX12 p R s m args meth c A D E cX12_may 6 (some .long) 1) (F : Nat) (o : Nat) (ho : o = 3 ∨ o = 4) (go gk : Nat) (hga : jf_G go gk) (x0 : jo_R) {x0a : Nat} (x0h : jo_m3 pl x0a x0) (x2 : Int32) (S : jf_S) (h : jo12_may_b22 F o go gk x0 x2 S = some out) : jf_J p l e R s m args below meth c A D E fo pl 6 (jf_Ql below args s A D E fo pl out) 22 [(0, .ref x0a), (1, .ref (E.1 o)), (2, .int x2)] [] S := by
  intro H locs ls hP hS hl
  have hX0 := hX
  obtain ⟨hx, hb, hml, hown, hts, hlk, hr, hlv, hV, het⟩ := hX0
  unfold jo12_may_b22 at h
  refine lv_aload_n hx hb dX12_may_22 rfl (lv_at hl 0 rfl) ?_
  obtain ⟨q1, bq1, dq1, hq1, aq1, cq1⟩ := jo_f3 (E := E) (S := S) (fo := fo) x0h
  refine jf_get hx hb hts in_X12 hown hV hP (ci := 9) (k := 4) hq1 rfl (by decide) (hts _ q1133) rfl rfl dX12_may_23 ?_
  obtain ⟨q2, eq2, h⟩ := jx_bi_some h
  refine jx_callSNl hx hb hml hown hts (jf_nm_X12_25 hV.2.2.1) (jf_bit_met eq2) jf_bit_c jf_bit_s jf_bit_i jf_bit_d (As := [.int (x0 4)]) (⟨Nat.le_trans (Nat.le_of_ble_eq_true rfl) hlv.1, Nat.le_trans (Nat.le_of_ble_eq_true rfl) hlv.2⟩) hl.1 rfl rfl (lv_room (Nat.le_of_ble_eq_true rfl)) dX12_may_26 ⟨Nat.zero_le _, Nat.zero_le _⟩ ?_
  refine lv_iload_n hx hb dX12_may_29 rfl (lv_at hl 2 rfl) ?_
  refine lv_iconst hx hb dX12_may_30 jx_ki1 ?_
  refine lv_iadd hx hb dX12_may_31 ?_
  obtain ⟨q3, eq3, h⟩ := jx_bi_some h
  refine jx_callSNl hx hb hml hown hts (jf_nm_X12_25 hV.2.2.1) (jf_bit_met eq3) jf_bit_c jf_bit_s jf_bit_i jf_bit_d (As := [.int (x2 + (nI 1))]) (⟨Nat.le_trans (Nat.le_of_ble_eq_true rfl) hlv.1, Nat.le_trans (Nat.le_of_ble_eq_true rfl) hlv.2⟩) hl.1 rfl rfl (lv_room (Nat.le_of_ble_eq_true rfl)) dX12_may_32 ⟨Nat.zero_le _, Nat.zero_le _⟩ ?_
  refine lv_lor hx hb dX12_may_35 ?_
  exact jf_lret hx hb hr hlk hV hP hS h dX12_may_36
theorem jo12_may_ok {out : Int64 × jf_S} (hX : jf_Ok RX12 p R s m args meth c A D E cX12_may 6 (some .long) 1) (F : Nat) (o : Nat) (ho : o = 3 ∨ o = 4) (go gk : Nat) (hga : jf_G go gk) (x0 : jo_R) {x0a : Nat} (x0h : jo_m3 pl x0a x0) (x2 : Int32) (x4 : Int32) (x5 : Int32) (S : jf_S) (h : jo12_may F o go gk x0 x2 x4 x5 S = some out) : jf_J p l e R s m args below meth c A D E fo pl 6 (jf_Ql below args s A D E fo pl out) 0 [(0, .ref x0a), (1, .ref (E.1 o)), (2, .int x2), (3, .ref (E.2.1 go gk)), (4, .int x4), (5, .int x5)] [] S := by
  intro H locs ls hP hS hl
  have hX0 := hX
  obtain ⟨hx, hb, hml, hown, hts, hlk, hr, hlv, hV, het⟩ := hX0
  unfold jo12_may at h
  refine lv_aload_n hx hb dX12_may_0 rfl (lv_at hl 0 rfl) ?_
  obtain ⟨q1, bq1, dq1, hq1, aq1, cq1⟩ := jo_f3 (E := E) (S := S) (fo := fo) x0h
  refine jf_get hx hb hts in_X12 hown hV hP (ci := 9) (k := 1) hq1 rfl (by decide) (hts _ q1127) rfl rfl dX12_may_1 ?_
  obtain ⟨q2, hq2⟩ := jf_pool (E := E) (S := S) (fo := fo) aq1
  refine jf_getN hx hb hts in_X7 hown hV hP (ci := 5) (k := 0) hq2 rfl (by decide) (jf_l_X12_29 hV.2.2.1) rfl rfl dX12_may_4 ?_
  refine lv_iconst hx hb dX12_may_7 jx_kim1 ?_
  refine lv_icmp_ne (tgt := 22) hx hb dX12_may_8 rfl (fun c3 => ?_) (fun c3 => ?_)
  · rw [if_neg c3] at h
    exact jo12_may_b22_ok hX F o ho go gk hga _ x0h _ _ h _ _ _ hP hS (lv_sub hl [0, 1, 2] rfl)
  · rw [if_pos c3] at h
    refine lv_aload_n hx hb dX12_may_11 rfl (lv_at hl 0 rfl) ?_
    obtain ⟨q4, bq4, dq4, hq4, aq4, cq4⟩ := jo_f3 (E := E) (S := S) (fo := fo) x0h
    refine jf_get hx hb hts in_X12 hown hV hP (ci := 9) (k := 2) hq4 rfl (by decide) (hts _ q1129) rfl rfl dX12_may_12 ?_
    obtain ⟨q5, hq5⟩ := jf_pool (E := E) (S := S) (fo := fo) cq4
    refine jf_getN hx hb hts in_X7 hown hV hP (ci := 5) (k := 0) hq5 rfl (by decide) (jf_l_X12_29 hV.2.2.1) rfl rfl dX12_may_15 ?_
    refine lv_iconst hx hb dX12_may_18 jx_kim1 ?_
    refine lv_icmp_eq (tgt := 37) hx hb dX12_may_19 rfl (fun c6 => ?_) (fun c6 => ?_)
    · rw [if_pos c6] at h
      refine lv_aload_n hx hb dX12_may_37 rfl (lv_at hl 0 rfl) ?_
      obtain ⟨q7, bq7, dq7, hq7, aq7, cq7⟩ := jo_f3 (E := E) (S := S) (fo := fo) x0h
      refine jf_get hx hb hts in_X12 hown hV hP (ci := 9) (k := 1) hq7 rfl (by decide) (hts _ q1127) rfl rfl dX12_may_38 ?_
      obtain ⟨q8, hq8⟩ := jf_pool (E := E) (S := S) (fo := fo) aq7
      refine jf_getN hx hb hts in_X7 hown hV hP (ci := 5) (k := 1) hq8 rfl (by decide) (jf_l_X12_34 hV.2.2.1) rfl rfl dX12_may_41 ?_
      refine lv_aload_n hx hb dX12_may_44 rfl (lv_at hl 0 rfl) ?_
      obtain ⟨q9, bq9, dq9, hq9, aq9, cq9⟩ := jo_f3 (E := E) (S := S) (fo := fo) x0h
      refine jf_get hx hb hts in_X12 hown hV hP (ci := 9) (k := 3) hq9 rfl (by decide) (hts _ q1131) rfl rfl dX12_may_45 ?_
      refine lv_aload_n hx hb dX12_may_48 rfl (lv_at hl 0 rfl) ?_
      obtain ⟨q10, bq10, dq10, hq10, aq10, cq10⟩ := jo_f3 (E := E) (S := S) (fo := fo) x0h
      refine jf_get hx hb hts in_X12 hown hV hP (ci := 9) (k := 2) hq10 rfl (by decide) (hts _ q1129) rfl rfl dX12_may_49 ?_
      obtain ⟨q11, hq11⟩ := jf_pool (E := E) (S := S) (fo := fo) cq10
      refine jf_getN hx hb hts in_X7 hown hV hP (ci := 5) (k := 1) hq11 rfl (by decide) (jf_l_X12_34 hV.2.2.1) rfl rfl dX12_may_52 ?_
      obtain ⟨q12, eq12, h⟩ := jx_bi_some h
      refine jx_callSi hx hb hml hown hts (jf_ifHolds_met eq12) jf_ifHolds_g_X12 jf_ifHolds_d (As := [.int (jo_an (x0 6)), .int (x0 8), .int (jo_an (x0 7))]) (⟨Nat.le_trans (Nat.le_of_ble_eq_true rfl) hlv.1, Nat.le_trans (Nat.le_of_ble_eq_true rfl) hlv.2⟩) hl.1 rfl rfl (lv_room (Nat.le_of_ble_eq_true rfl)) dX12_may_55 ⟨Nat.zero_le _, Nat.zero_le _⟩ ?_
      refine lv_if_eq (tgt := 71) hx hb dX12_may_58 rfl (fun c13 => ?_) (fun c13 => ?_)
      · rw [if_pos c13] at h
        refine lv_iload_n hx hb dX12_may_71 rfl (lv_at hl 2 rfl) ?_
        refine lv_iconst hx hb dX12_may_72 jx_ki1 ?_
        refine lv_iadd hx hb dX12_may_73 ?_
        obtain ⟨q14, eq14, h⟩ := jx_bi_some h
        refine jx_callSNl hx hb hml hown hts (jf_nm_X12_25 hV.2.2.1) (jf_bit_met eq14) jf_bit_c jf_bit_s jf_bit_i jf_bit_d (As := [.int (x2 + (nI 1))]) (⟨Nat.le_trans (Nat.le_of_ble_eq_true rfl) hlv.1, Nat.le_trans (Nat.le_of_ble_eq_true rfl) hlv.2⟩) hl.1 rfl rfl (lv_room (Nat.le_of_ble_eq_true rfl)) dX12_may_74 ⟨Nat.zero_le _, Nat.zero_le _⟩ ?_
        exact jf_lret hx hb hr hlk hV hP hS h dX12_may_77
      · rw [if_neg c13] at h
        refine lv_aload_n hx hb dX12_may_61 rfl (lv_at hl 0 rfl) ?_
        obtain ⟨q15, bq15, dq15, hq15, aq15, cq15⟩ := jo_f3 (E := E) (S := S) (fo := fo) x0h
        refine jf_get hx hb hts in_X12 hown hV hP (ci := 9) (k := 4) hq15 rfl (by decide) (hts _ q1133) rfl rfl dX12_may_62 ?_
        obtain ⟨q16, eq16, h⟩ := jx_bi_some h
        refine jx_callSNl hx hb hml hown hts (jf_nm_X12_25 hV.2.2.1) (jf_bit_met eq16) jf_bit_c jf_bit_s jf_bit_i jf_bit_d (As := [.int (x0 4)]) (⟨Nat.le_trans (Nat.le_of_ble_eq_true rfl) hlv.1, Nat.le_trans (Nat.le_of_ble_eq_true rfl) hlv.2⟩) hl.1 rfl rfl (lv_room (Nat.le_of_ble_eq_true rfl)) dX12_may_65 ⟨Nat.zero_le _, Nat.zero_le _⟩ ?_
        refine lv_goto (tgt := 77) hx hb dX12_may_68 rfl ?_
        exact jf_lret hx hb hr hlk hV hP hS h dX12_may_77
    · rw [if_neg c6] at h
      exact jo12_may_b22_ok hX F o ho go gk hga _ x0h _ _ h _ _ _ hP hS (lv_sub hl [0, 1, 2] rfl)
theorem jo12_may_met {l : Launch} {D : va_G} {E : jf_E} {A : Nat → Prop} {fo : Nat → Nat → Option Nat} {pl : va_W} {F : Nat} {o : Nat} (ho : o = 3 ∨ o = 4) {go gk : Nat} (hga : jf_G go gk) {x0 : jo_R} {x0a : Nat} (x0h : jo_m3 pl x0a x0) {x2 : Int32} {x4 : Int32} {x5 : Int32} {S : jf_S} {out : Int64 × jf_S} (h : jo12_may F o go gk x0 x2 x4 x5 S = some out) : jf_Ml l D E A fo pl yX12_may cX12_may 6 (some .long) 1 [.ref x0a, .ref (E.1 o), .int x2, .ref (E.2.1 go gk), .int x4, .int x5] S out :=
  jf_Ml_of (own := RX12) ⟨by decide, rfl, Nat.le_of_ble_eq_true rfl⟩ (fun hX => jo12_may_ok hX F o ho go gk hga x0 x0h x2 x4 x5 S h)
theorem jo13_may_d : yX13_may.cls = RX13 ∧ yX13_may.cls ≠ "java/lang/invoke/MethodHandle" ∧ yX13_may.cls ≠ "java/lang/invoke/VarHandle" ∧ (parseMethodDescriptor yX13_may.desc).map (fun d => d.parameters.length) = some 5 := by decide +kernel
theorem jo13_may_ok {out : Int64 × jf_S} (hX : jf_Ok RX13 p R s m args meth c A D E cX13_may 8 (some .long) 2) (F : Nat) (o : Nat) (ho : o = 3 ∨ o = 4) (go gk : Nat) (hga : jf_G go gk) (x0 : jo_R) {x0a : Nat} (x0h : jo_mT pl x0a x0) (x2 : Int32) (x4 : Int32) (x5 : Int32) (S : jf_S) (h : jo13_may F o go gk x0 x2 x4 x5 S = some out) : jf_J p l e R s m args below meth c A D E fo pl 8 (jf_Ql below args s A D E fo pl out) 0 [(0, .ref x0a), (1, .ref (E.1 o)), (2, .int x2), (3, .ref (E.2.1 go gk)), (4, .int x4), (5, .int x5)] [] S := by
  intro H locs ls hP hS hl
  have hX0 := hX
  obtain ⟨hx, hb, hml, hown, hts, hlk, hr, hlv, hV, het⟩ := hX0
  unfold jo13_may at h
  refine lv_aload_n hx hb dX13_may_0 rfl (lv_at hl 1 rfl) ?_
  refine lv_iload_n hx hb dX13_may_1 rfl (lv_at hl 2 rfl) ?_
  refine lv_aload_n hx hb dX13_may_2 rfl (lv_at hl 3 rfl) ?_
  refine lv_iload_n hx hb dX13_may_3 rfl (lv_at hl 2 rfl) ?_
  obtain ⟨j1, ej1, bj1, h⟩ := jx_ga_some h
  refine jf_iald hx hb hV hP (jf_aG hga) ej1 bj1 dX13_may_4 ?_
  obtain ⟨q2, eq2, h⟩ := jx_bi_some h
  refine jf_callL hx hb hml hown hts hlv hV (jp_lets_met ho eq2) jp_lets_g_X13 jp_lets_d (As := [.int x2, .int (S.2.2.1 go gk j1)]) (Nat.le_of_ble_eq_true rfl) (Nat.le_of_ble_eq_true rfl) hP hS (ci := 3) (jf_oP ho) rfl hl.1 rfl rfl (lv_room (Nat.le_of_ble_eq_true rfl)) dX13_may_5 (fun H locs hP hS => ?_)
  obtain ⟨y3, ey3, h⟩ := jx_nx_some h
  refine jx_topl ey3 ?_
  refine lv_lstore (lv' := [(6, .long y3), (0, .ref x0a), (1, .ref (E.1 o)), (2, .int x2), (3, .ref (E.2.1 go gk)), (4, .int x4), (5, .int x5)]) hx hb dX13_may_8 hl (Nat.le_of_ble_eq_true rfl) rfl (fun ls hl => ?_)
  refine lv_iload hx hb dX13_may_10 (lv_at hl 5 rfl) ?_
  refine lv_aload_n hx hb dX13_may_12 rfl (lv_at hl 1 rfl) ?_
  refine jf_getT (k := 1) hx hb hts hown hV hP x0h (by decide) (hts _ q1156) rfl rfl dX13_may_13 ?_
  refine lv_ishr hx hb dX13_may_16 ?_
  refine lv_iconst hx hb dX13_may_17 jx_ki1 ?_
  refine lv_iand hx hb dX13_may_18 ?_
  refine lv_iconst hx hb dX13_may_19 jx_ki1 ?_
  refine lv_icmp_eq (tgt := 38) hx hb dX13_may_20 rfl (fun c4 => ?_) (fun c4 => ?_)
  · rw [if_pos c4] at h
    refine lv_lload hx hb dX13_may_38 (lv_at hl 0 rfl) ?_
    refine lv_goto (tgt := 55) hx hb dX13_may_40 rfl ?_
    exact jf_lret hx hb hr hlk hV hP hS h dX13_may_55
  · rw [if_neg c4] at h
    refine lv_aload_n hx hb dX13_may_23 rfl (lv_at hl 2 rfl) ?_
    refine jf_getN hx hb hts in_X4 hown hV hP (ci := 3) (k := 17) (jf_oP ho) rfl (by decide) (jf_l_X13_28 hV.2.2.1) rfl rfl dX13_may_24 ?_
    refine lv_aload_n hx hb dX13_may_27 rfl (lv_at hl 1 rfl) ?_
    refine jf_getT (k := 1) hx hb hts hown hV hP x0h (by decide) (hts _ q1156) rfl rfl dX13_may_28 ?_
    refine lv_ishr hx hb dX13_may_31 ?_
    refine lv_iconst hx hb dX13_may_32 jx_ki1 ?_
    refine lv_iand hx hb dX13_may_33 ?_
    refine lv_iconst hx hb dX13_may_34 jx_ki1 ?_
    refine lv_icmp_ne (tgt := 43) hx hb dX13_may_35 rfl (fun c5 => ?_) (fun c5 => ?_)
    · rw [if_neg c5] at h
      refine lv_aload_n hx hb dX13_may_43 rfl (lv_at hl 2 rfl) ?_
      refine jf_getN hx hb hts in_X4 hown hV hP (ci := 3) (k := 9) (jf_oP ho) rfl (by decide) (jf_l_X13_31 hV.2.2.1) rfl rfl dX13_may_44 ?_
      refine lv_aload_n hx hb dX13_may_47 rfl (lv_at hl 1 rfl) ?_
      refine jf_getT (k := 1) hx hb hts hown hV hP x0h (by decide) (hts _ q1156) rfl rfl dX13_may_48 ?_
      obtain ⟨j6, ej6, bj6, h⟩ := jx_ga_some h
      refine jf_lald hx hb hV hP (jf_aP9 ho) ej6 bj6 dX13_may_51 ?_
      refine lv_lload hx hb dX13_may_52 (lv_at hl 0 rfl) ?_
      refine lv_land hx hb dX13_may_54 ?_
      exact jf_lret hx hb hr hlk hV hP hS h dX13_may_55
    · rw [if_pos c5] at h
      refine lv_lload hx hb dX13_may_38 (lv_at hl 0 rfl) ?_
      refine lv_goto (tgt := 55) hx hb dX13_may_40 rfl ?_
      exact jf_lret hx hb hr hlk hV hP hS h dX13_may_55
theorem jo13_may_met {l : Launch} {D : va_G} {E : jf_E} {A : Nat → Prop} {fo : Nat → Nat → Option Nat} {pl : va_W} {F : Nat} {o : Nat} (ho : o = 3 ∨ o = 4) {go gk : Nat} (hga : jf_G go gk) {x0 : jo_R} {x0a : Nat} (x0h : jo_mT pl x0a x0) {x2 : Int32} {x4 : Int32} {x5 : Int32} {S : jf_S} {out : Int64 × jf_S} (h : jo13_may F o go gk x0 x2 x4 x5 S = some out) : jf_Ml l D E A fo pl yX13_may cX13_may 8 (some .long) 2 [.ref x0a, .ref (E.1 o), .int x2, .ref (E.2.1 go gk), .int x4, .int x5] S out :=
  jf_Ml_of (own := RX13) ⟨by decide, rfl, Nat.le_of_ble_eq_true rfl⟩ (fun hX => jo13_may_ok hX F o ho go gk hga x0 x0h x2 x4 x5 S h)
theorem jo14_may_d : yX14_may.cls = RX14 ∧ yX14_may.cls ≠ "java/lang/invoke/MethodHandle" ∧ yX14_may.cls ≠ "java/lang/invoke/VarHandle" ∧ (parseMethodDescriptor yX14_may.desc).map (fun d => d.parameters.length) = some 5 := by decide +kernel
theorem jo14_may_ok {out : Int64 × jf_S} (hX : jf_Ok RX14 p R s m args meth c A D E cX14_may 6 (some .long) 1) (F : Nat) (o : Nat) (ho : o = 3 ∨ o = 4) (go gk : Nat) (hga : jf_G go gk) (x0 : jo_R) {x0a : Nat} (x0h : jo_m5 pl x0a x0) (x2 : Int32) (x4 : Int32) (x5 : Int32) (S : jf_S) (h : jo14_may F o go gk x0 x2 x4 x5 S = some out) : jf_J p l e R s m args below meth c A D E fo pl 6 (jf_Ql below args s A D E fo pl out) 0 [(0, .ref x0a), (1, .ref (E.1 o)), (2, .int x2), (3, .ref (E.2.1 go gk)), (4, .int x4), (5, .int x5)] [] S := by
  intro H locs ls hP hS hl
  have hX0 := hX
  obtain ⟨hx, hb, hml, hown, hts, hlk, hr, hlv, hV, het⟩ := hX0
  unfold jo14_may at h
  refine lv_aload_n hx hb dX14_may_0 rfl (lv_at hl 0 rfl) ?_
  obtain ⟨q1, hq1⟩ := jf_pool (E := E) (S := S) (fo := fo) x0h
  refine jf_get hx hb hts in_X14 hown hV hP (ci := 11) (k := 1) hq1 rfl (by decide) (hts _ q1170) rfl rfl dX14_may_1 ?_
  obtain ⟨q2, eq2, h⟩ := jx_bi_some h
  refine jx_callSNl hx hb hml hown hts (jf_nm_X14_15 hV.2.2.1) (jf_bit_met eq2) jf_bit_c jf_bit_s jf_bit_i jf_bit_d (As := [.int (x0 4)]) (⟨Nat.le_trans (Nat.le_of_ble_eq_true rfl) hlv.1, Nat.le_trans (Nat.le_of_ble_eq_true rfl) hlv.2⟩) hl.1 rfl rfl (lv_room (Nat.le_of_ble_eq_true rfl)) dX14_may_4 ⟨Nat.zero_le _, Nat.zero_le _⟩ ?_
  exact jf_lret hx hb hr hlk hV hP hS h dX14_may_7
theorem jo14_may_met {l : Launch} {D : va_G} {E : jf_E} {A : Nat → Prop} {fo : Nat → Nat → Option Nat} {pl : va_W} {F : Nat} {o : Nat} (ho : o = 3 ∨ o = 4) {go gk : Nat} (hga : jf_G go gk) {x0 : jo_R} {x0a : Nat} (x0h : jo_m5 pl x0a x0) {x2 : Int32} {x4 : Int32} {x5 : Int32} {S : jf_S} {out : Int64 × jf_S} (h : jo14_may F o go gk x0 x2 x4 x5 S = some out) : jf_Ml l D E A fo pl yX14_may cX14_may 6 (some .long) 1 [.ref x0a, .ref (E.1 o), .int x2, .ref (E.2.1 go gk), .int x4, .int x5] S out :=
  jf_Ml_of (own := RX14) ⟨by decide, rfl, Nat.le_of_ble_eq_true rfl⟩ (fun hX => jo14_may_ok hX F o ho go gk hga x0 x0h x2 x4 x5 S h)
theorem jo16_may_d : yX16_may.cls = RX16 ∧ yX16_may.cls ≠ "java/lang/invoke/MethodHandle" ∧ yX16_may.cls ≠ "java/lang/invoke/VarHandle" ∧ (parseMethodDescriptor yX16_may.desc).map (fun d => d.parameters.length) = some 5 := by decide +kernel
theorem jo16_may_b27_ok {out : Int64 × jf_S} (hX : jf_Ok RX16 p R s m args meth c A D E cX16_may 8 (some .long) 2) (F : Nat) (o : Nat) (ho : o = 3 ∨ o = 4) (go gk : Nat) (hga : jf_G go gk) (x0 : jo_R) {x0a : Nat} (x0h : jo_m7 pl x0a x0) (x6 : Int64) (S : jf_S) (h : jo16_may_b27 F o go gk x0 x6 S = some out) : jf_J p l e R s m args below meth c A D E fo pl 8 (jf_Ql below args s A D E fo pl out) 27 [(0, .ref x0a), (1, .ref (E.1 o)), (6, .long x6)] [] S := by
  intro H locs ls hP hS hl
  have hX0 := hX
  obtain ⟨hx, hb, hml, hown, hts, hlk, hr, hlv, hV, het⟩ := hX0
  unfold jo16_may_b27 at h
  refine lv_aload_n hx hb dX16_may_27 rfl (lv_at hl 1 rfl) ?_
  refine jf_getN hx hb hts in_X4 hown hV hP (ci := 3) (k := 18) (jf_oP ho) rfl (by decide) (jf_l_X16_15 hV.2.2.1) rfl rfl dX16_may_28 ?_
  refine lv_lload hx hb dX16_may_31 (lv_at hl 2 rfl) ?_
  refine lv_land hx hb dX16_may_33 ?_
  exact jf_lret hx hb hr hlk hV hP hS h dX16_may_34
theorem jo16_may_ok {out : Int64 × jf_S} (hX : jf_Ok RX16 p R s m args meth c A D E cX16_may 8 (some .long) 2) (F : Nat) (o : Nat) (ho : o = 3 ∨ o = 4) (go gk : Nat) (hga : jf_G go gk) (x0 : jo_R) {x0a : Nat} (x0h : jo_m7 pl x0a x0) (x2 : Int32) (x4 : Int32) (x5 : Int32) (S : jf_S) (h : jo16_may F o go gk x0 x2 x4 x5 S = some out) : jf_J p l e R s m args below meth c A D E fo pl 8 (jf_Ql below args s A D E fo pl out) 0 [(0, .ref x0a), (1, .ref (E.1 o)), (2, .int x2), (3, .ref (E.2.1 go gk)), (4, .int x4), (5, .int x5)] [] S := by
  intro H locs ls hP hS hl
  have hX0 := hX
  obtain ⟨hx, hb, hml, hown, hts, hlk, hr, hlv, hV, het⟩ := hX0
  unfold jo16_may at h
  refine lv_aload_n hx hb dX16_may_0 rfl (lv_at hl 1 rfl) ?_
  refine lv_iload_n hx hb dX16_may_1 rfl (lv_at hl 2 rfl) ?_
  refine lv_aload_n hx hb dX16_may_2 rfl (lv_at hl 3 rfl) ?_
  refine lv_iload_n hx hb dX16_may_3 rfl (lv_at hl 2 rfl) ?_
  obtain ⟨j1, ej1, bj1, h⟩ := jx_ga_some h
  refine jf_iald hx hb hV hP (jf_aG hga) ej1 bj1 dX16_may_4 ?_
  obtain ⟨q2, eq2, h⟩ := jx_bi_some h
  refine jf_callL hx hb hml hown hts hlv hV (jp_lets_met ho eq2) jp_lets_g_X16 jp_lets_d (As := [.int x2, .int (S.2.2.1 go gk j1)]) (Nat.le_of_ble_eq_true rfl) (Nat.le_of_ble_eq_true rfl) hP hS (ci := 3) (jf_oP ho) rfl hl.1 rfl rfl (lv_room (Nat.le_of_ble_eq_true rfl)) dX16_may_5 (fun H locs hP hS => ?_)
  obtain ⟨y3, ey3, h⟩ := jx_nx_some h
  refine jx_topl ey3 ?_
  refine lv_lstore (lv' := [(6, .long y3), (0, .ref x0a), (1, .ref (E.1 o)), (2, .int x2), (3, .ref (E.2.1 go gk)), (4, .int x4), (5, .int x5)]) hx hb dX16_may_8 hl (Nat.le_of_ble_eq_true rfl) rfl (fun ls hl => ?_)
  refine lv_iload hx hb dX16_may_10 (lv_at hl 6 rfl) ?_
  refine lv_if_eq (tgt := 27) hx hb dX16_may_12 rfl (fun c4 => ?_) (fun c4 => ?_)
  · rw [if_pos c4] at h
    exact jo16_may_b27_ok hX F o ho go gk hga _ x0h _ _ h _ _ _ hP hS (lv_sub hl [1, 2, 0] rfl)
  · rw [if_neg c4] at h
    refine lv_aload_n hx hb dX16_may_15 rfl (lv_at hl 4 rfl) ?_
    refine lv_iload_n hx hb dX16_may_16 rfl (lv_at hl 3 rfl) ?_
    obtain ⟨j5, ej5, bj5, h⟩ := jx_ga_some h
    refine jf_iald hx hb hV hP (jf_aG hga) ej5 bj5 dX16_may_17 ?_
    refine lv_iconst hx hb dX16_may_18 jx_ki3 ?_
    refine lv_icmp_ge (tgt := 27) hx hb dX16_may_19 rfl (fun c6 => ?_) (fun c6 => ?_)
    · rw [if_pos c6] at h
      exact jo16_may_b27_ok hX F o ho go gk hga _ x0h _ _ h _ _ _ hP hS (lv_sub hl [1, 2, 0] rfl)
    · rw [if_neg c6] at h
      refine lv_lload hx hb dX16_may_22 (lv_at hl 0 rfl) ?_
      refine lv_goto (tgt := 34) hx hb dX16_may_24 rfl ?_
      exact jf_lret hx hb hr hlk hV hP hS h dX16_may_34
theorem jo16_may_met {l : Launch} {D : va_G} {E : jf_E} {A : Nat → Prop} {fo : Nat → Nat → Option Nat} {pl : va_W} {F : Nat} {o : Nat} (ho : o = 3 ∨ o = 4) {go gk : Nat} (hga : jf_G go gk) {x0 : jo_R} {x0a : Nat} (x0h : jo_m7 pl x0a x0) {x2 : Int32} {x4 : Int32} {x5 : Int32} {S : jf_S} {out : Int64 × jf_S} (h : jo16_may F o go gk x0 x2 x4 x5 S = some out) : jf_Ml l D E A fo pl yX16_may cX16_may 8 (some .long) 2 [.ref x0a, .ref (E.1 o), .int x2, .ref (E.2.1 go gk), .int x4, .int x5] S out :=
  jf_Ml_of (own := RX16) ⟨by decide, rfl, Nat.le_of_ble_eq_true rfl⟩ (fun hX => jo16_may_ok hX F o ho go gk hga x0 x0h x2 x4 x5 S h)
theorem jo18_may_d : yX18_may.cls = RX18 ∧ yX18_may.cls ≠ "java/lang/invoke/MethodHandle" ∧ yX18_may.cls ≠ "java/lang/invoke/VarHandle" ∧ (parseMethodDescriptor yX18_may.desc).map (fun d => d.parameters.length) = some 5 := by decide +kernel
theorem jo18_may_ok {out : Int64 × jf_S} (hX : jf_Ok RX18 p R s m args meth c A D E cX18_may 6 (some .long) 0) (F : Nat) (o : Nat) (ho : o = 3 ∨ o = 4) (go gk : Nat) (hga : jf_G go gk) (x0 : jo_R) {x0a : Nat} (x0h : jo_m9 pl x0a x0) (x2 : Int32) (x4 : Int32) (x5 : Int32) (S : jf_S) (h : jo18_may F o go gk x0 x2 x4 x5 S = some out) : jf_J p l e R s m args below meth c A D E fo pl 6 (jf_Ql below args s A D E fo pl out) 0 [(0, .ref x0a), (1, .ref (E.1 o)), (2, .int x2), (3, .ref (E.2.1 go gk)), (4, .int x4), (5, .int x5)] [] S := by
  intro H locs ls hP hS hl
  have hX0 := hX
  obtain ⟨hx, hb, hml, hown, hts, hlk, hr, hlv, hV, het⟩ := hX0
  unfold jo18_may at h
  refine lv_lconst hx hb dX18_may_0 jx_kl0 ?_
  exact jf_lret hx hb hr hlk hV hP hS h dX18_may_1
theorem jo18_may_met {l : Launch} {D : va_G} {E : jf_E} {A : Nat → Prop} {fo : Nat → Nat → Option Nat} {pl : va_W} {F : Nat} {o : Nat} (ho : o = 3 ∨ o = 4) {go gk : Nat} (hga : jf_G go gk) {x0 : jo_R} {x0a : Nat} (x0h : jo_m9 pl x0a x0) {x2 : Int32} {x4 : Int32} {x5 : Int32} {S : jf_S} {out : Int64 × jf_S} (h : jo18_may F o go gk x0 x2 x4 x5 S = some out) : jf_Ml l D E A fo pl yX18_may cX18_may 6 (some .long) 0 [.ref x0a, .ref (E.1 o), .int x2, .ref (E.2.1 go gk), .int x4, .int x5] S out :=
  jf_Ml_of (own := RX18) ⟨by decide, rfl, Nat.le_of_ble_eq_true rfl⟩ (fun hX => jo18_may_ok hX F o ho go gk hga x0 x0h x2 x4 x5 S h)
theorem jv_may_X4 {F nL lv a : Nat} {r : jo_R} {v1 : Int32} {v3 : Int32} {v4 : Int32} {out : Int64 × jf_S} {stk : List Value} (hx : p.tables.exec = Jvm.exec) (hb : c.code = cc) (hml : c.maxLocals = nL) (hown : s.vm.findClass RX4 = some m.cls) (hts : ∀ w ∈ lw_all, w.before args s = true) (hlv : jx_hr R lv) (hV : jf_V D E A s) {o : Nat} (ho : o = 3 ∨ o = 4) {go gk : Nat} (hga : jf_G go gk) (hi : jo_Is pl a r) (e1 : jv_may F o go gk r v1 v3 v4 S = some out) (h1 : 2 + 1 ≤ lv) (hP : jf_P D E A S fo pl H) (hS : va_S A s.heap H locs) (hls : ls.size = nL) (_ : (1 : Nat) = 1) (hst : stk = ([.ref (E.1 o), .int v1, .ref (E.2.1 go gk), .int v3, .int v4] : List Value).reverse ++ .ref a :: rest) (hW : 2 * (F0 m pc ls stk).monitorRoom + (rest.map fun v => v.category).sum ≤ 8) (hdg : decode cc pc = .ok (.invokevirtual 143, 3))
    (kk : ∀ (H : Heap) (locs : List Loc), jf_P D E A out.2 fo pl H → va_S A s.heap H locs → W p l e R s m args below meth c H locs 0 0 Q (F0 m (pc + 3) ls (.long out.1 :: rest))) : W p l e R s m args below meth c H locs 0 0 Q (F0 m pc ls stk) := by
  obtain ⟨hv1, hv2⟩ := hlv
  rcases hi with ⟨e0, h0⟩ | ⟨e0, h0⟩ | ⟨e0, h0⟩ | ⟨e0, h0⟩ | ⟨e0, h0⟩ | ⟨e0, h0⟩ | ⟨e0, h0⟩ | ⟨e0, h0⟩ | ⟨e0, h0⟩ | ⟨e0, h0⟩
  · rw [jv_may, if_pos e0] at e1
    obtain ⟨q0, _, _, hq, -, -⟩ := jo_f0 (E := E) (S := S) (fo := fo) h0
    exact jf_vcallL hx hb hml hown hts hV (jo8_may_met ho hga (x0a := a) e1) (va_cwO (x := ⟨"JumpFence$Order", "may", "(LJumpFence$Program;I[IIZ)J"⟩) (owner := "JumpFence$Order") 5 hts (jf_lwO q886 q888 q887 q909 q887 q116 q914) rfl rfl rfl q914 (by decide +kernel) ⟨by show 1 + 1 ≤ R.frames; omega, by show 8 + (6 + 11) + 40 * 1 ≤ R.locals; omega⟩) hP hS (ci := 6) hq rfl hls rfl hst hW hdg kk
  · rw [jv_may, if_neg (by rw [e0]; decide), if_pos e0] at e1
    obtain ⟨q0, hq⟩ := jf_pool (E := E) (S := S) (fo := fo) h0
    exact jf_vcallL hx hb hml hown hts hV (jo8_may_met ho hga (x0a := a) e1) (va_cwO (x := ⟨"JumpFence$Order", "may", "(LJumpFence$Program;I[IIZ)J"⟩) (owner := "JumpFence$Order") 5 hts (jf_lwO q886 q888 q887 q908 q887 q116 q914) rfl rfl rfl q914 (by decide +kernel) ⟨by show 1 + 1 ≤ R.frames; omega, by show 8 + (6 + 11) + 40 * 1 ≤ R.locals; omega⟩) hP hS (ci := 7) hq rfl hls rfl hst hW hdg kk
  · rw [jv_may, if_neg (by rw [e0]; decide), if_neg (by rw [e0]; decide), if_pos e0] at e1
    obtain ⟨q0, hq⟩ := jf_pool (E := E) (S := S) (fo := fo) h0
    exact jf_vcallL hx hb hml hown hts hV (jo11_may_met ho hga h0 e1) (va_cwO (x := ⟨"JumpFence$Order", "may", "(LJumpFence$Program;I[IIZ)J"⟩) (owner := "JumpFence$Order") 5 hts (jf_lwO q886 q888 q887 q905 q906 q119 q907) rfl rfl rfl q914 (by decide +kernel) ⟨by show 1 + 1 ≤ R.frames; omega, by show 8 + (6 + 11) + 40 * 1 ≤ R.locals; omega⟩) hP hS (ci := 8) hq rfl hls rfl hst hW hdg kk
  · rw [jv_may, if_neg (by rw [e0]; decide), if_neg (by rw [e0]; decide), if_neg (by rw [e0]; decide), if_pos e0] at e1
    obtain ⟨q0, _, _, hq, -, -⟩ := jo_f3 (E := E) (S := S) (fo := fo) h0
    exact jf_vcallL hx hb hml hown hts hV (jo12_may_met ho hga h0 e1) (va_cwO (x := ⟨"JumpFence$Order", "may", "(LJumpFence$Program;I[IIZ)J"⟩) (owner := "JumpFence$Order") 5 hts (jf_lwO q886 q888 q887 q902 q903 q120 q904) rfl rfl rfl q914 (by decide +kernel) ⟨by show 1 + 1 ≤ R.frames; omega, by show 8 + (6 + 11) + 40 * 1 ≤ R.locals; omega⟩) hP hS (ci := 9) hq rfl hls rfl hst hW hdg kk
  · rw [jv_may, if_neg (by rw [e0]; decide), if_neg (by rw [e0]; decide), if_neg (by rw [e0]; decide), if_neg (by rw [e0]; decide), if_pos e0] at e1
    obtain ⟨q0, hq⟩ := jf_pool (E := E) (S := S) (fo := fo) h0
    exact jf_vcallL hx hb hml hown hts hV (jo13_may_met ho hga (Or.inl h0) e1) (va_cwO (x := ⟨"JumpFence$Order", "may", "(LJumpFence$Program;I[IIZ)J"⟩) (owner := "JumpFence$Order") 5 hts (jf_lwO q886 q888 q887 q913 q894 q121 q895) rfl rfl rfl q914 (by decide +kernel) ⟨by show 2 + 1 ≤ R.frames; omega, by show 8 + (8 + 11) + 40 * 2 ≤ R.locals; omega⟩) hP hS (ci := 10) hq rfl hls rfl hst hW hdg kk
  · rw [jv_may, if_neg (by rw [e0]; decide), if_neg (by rw [e0]; decide), if_neg (by rw [e0]; decide), if_neg (by rw [e0]; decide), if_neg (by rw [e0]; decide), if_pos e0] at e1
    obtain ⟨q0, hq⟩ := jf_pool (E := E) (S := S) (fo := fo) h0
    exact jf_vcallL hx hb hml hown hts hV (jo14_may_met ho hga h0 e1) (va_cwO (x := ⟨"JumpFence$Order", "may", "(LJumpFence$Program;I[IIZ)J"⟩) (owner := "JumpFence$Order") 5 hts (jf_lwO q886 q888 q887 q897 q898 q122 q899) rfl rfl rfl q914 (by decide +kernel) ⟨by show 1 + 1 ≤ R.frames; omega, by show 8 + (6 + 11) + 40 * 1 ≤ R.locals; omega⟩) hP hS (ci := 11) hq rfl hls rfl hst hW hdg kk
  · rw [jv_may, if_neg (by rw [e0]; decide), if_neg (by rw [e0]; decide), if_neg (by rw [e0]; decide), if_neg (by rw [e0]; decide), if_neg (by rw [e0]; decide), if_neg (by rw [e0]; decide), if_pos e0] at e1
    obtain ⟨q0, hq⟩ := jf_pool (E := E) (S := S) (fo := fo) h0
    exact jf_vcallL hx hb hml hown hts hV (jo13_may_met ho hga (Or.inr h0) e1) (va_cwO (x := ⟨"JumpFence$Order", "may", "(LJumpFence$Program;I[IIZ)J"⟩) (owner := "JumpFence$Order") 5 hts (jf_lwO q886 q888 q887 q893 q894 q121 q895) rfl rfl rfl q914 (by decide +kernel) ⟨by show 2 + 1 ≤ R.frames; omega, by show 8 + (8 + 11) + 40 * 2 ≤ R.locals; omega⟩) hP hS (ci := 12) hq rfl hls rfl hst hW hdg kk
  · rw [jv_may, if_neg (by rw [e0]; decide), if_neg (by rw [e0]; decide), if_neg (by rw [e0]; decide), if_neg (by rw [e0]; decide), if_neg (by rw [e0]; decide), if_neg (by rw [e0]; decide), if_neg (by rw [e0]; decide), if_pos e0] at e1
    obtain ⟨q0, hq⟩ := jf_pool (E := E) (S := S) (fo := fo) h0
    exact jf_vcallL hx hb hml hown hts hV (jo16_may_met ho hga h0 e1) (va_cwO (x := ⟨"JumpFence$Order", "may", "(LJumpFence$Program;I[IIZ)J"⟩) (owner := "JumpFence$Order") 5 hts (jf_lwO q886 q888 q887 q889 q890 q124 q891) rfl rfl rfl q914 (by decide +kernel) ⟨by show 2 + 1 ≤ R.frames; omega, by show 8 + (8 + 11) + 40 * 2 ≤ R.locals; omega⟩) hP hS (ci := 13) hq rfl hls rfl hst hW hdg kk
  · rw [jv_may, if_neg (by rw [e0]; decide), if_neg (by rw [e0]; decide), if_neg (by rw [e0]; decide), if_neg (by rw [e0]; decide), if_neg (by rw [e0]; decide), if_neg (by rw [e0]; decide), if_neg (by rw [e0]; decide), if_neg (by rw [e0]; decide), if_pos e0] at e1
    obtain ⟨q0, _, hq, -⟩ := jo_f8 (E := E) (S := S) (fo := fo) h0
    exact jf_vcallL hx hb hml hown hts hV (jo8_may_met ho hga (x0a := a) e1) (va_cwO (x := ⟨"JumpFence$Order", "may", "(LJumpFence$Program;I[IIZ)J"⟩) (owner := "JumpFence$Order") 5 hts (jf_lwO q886 q888 q887 q901 q887 q116 q914) rfl rfl rfl q914 (by decide +kernel) ⟨by show 1 + 1 ≤ R.frames; omega, by show 8 + (6 + 11) + 40 * 1 ≤ R.locals; omega⟩) hP hS (ci := 14) hq rfl hls rfl hst hW hdg kk
  · rw [jv_may, if_neg (by rw [e0]; decide), if_neg (by rw [e0]; decide), if_neg (by rw [e0]; decide), if_neg (by rw [e0]; decide), if_neg (by rw [e0]; decide), if_neg (by rw [e0]; decide), if_neg (by rw [e0]; decide), if_neg (by rw [e0]; decide), if_neg (by rw [e0]; decide), if_pos e0] at e1
    obtain ⟨q0, hq⟩ := jf_pool (E := E) (S := S) (fo := fo) h0
    exact jf_vcallL hx hb hml hown hts hV (jo18_may_met ho hga h0 e1) (va_cwO (x := ⟨"JumpFence$Order", "may", "(LJumpFence$Program;I[IIZ)J"⟩) (owner := "JumpFence$Order") 5 hts (jf_lwO q886 q888 q887 q910 q911 q126 q912) rfl rfl rfl q914 (by decide +kernel) ⟨by show 0 + 1 ≤ R.frames; omega, by show 8 + (6 + 11) + 40 * 0 ≤ R.locals; omega⟩) hP hS (ci := 15) hq rfl hls rfl hst hW hdg kk
theorem jp_may_g_X1 : GoodIn lw_all (wsV RX1 244 RX4 yX4_may (ws_ yX4_may cX4_may 4 (some .long))) := lw_V q882 q883 q884 q108 q885
theorem jp_may_g_X4 : GoodIn lw_all (wsV RX4 147 RX4 yX4_may (ws_ yX4_may cX4_may 4 (some .long))) := lw_V q1475 q883 q884 q108 q885
theorem jp_may_d : yX4_may.cls = RX4 ∧ yX4_may.cls ≠ "java/lang/invoke/MethodHandle" ∧ yX4_may.cls ≠ "java/lang/invoke/VarHandle" ∧ (parseMethodDescriptor yX4_may.desc).map (fun d => d.parameters.length) = some 3 := by decide +kernel
theorem jp_may_ok {out : Int64 × jf_S} (hX : jf_Ok RX4 p R s m args meth c A D E cX4_may 4 (some .long) 3) (F : Nat) (o : Nat) (ho : o = 3 ∨ o = 4) (go gk : Nat) (hga : jf_G go gk) (x1 : Int32) (x3 : Int32) (S : jf_S) (h : jp_may F o go gk x1 x3 S = some out) : jf_J p l e R s m args below meth c A D E fo pl 4 (jf_Ql below args s A D E fo pl out) 0 [(0, .ref (E.1 o)), (1, .int x1), (2, .ref (E.2.1 go gk)), (3, .int x3)] [] S := by
  intro H locs ls hP hS hl
  have hX0 := hX
  obtain ⟨hx, hb, hml, hown, hts, hlk, hr, hlv, hV, het⟩ := hX0
  unfold jp_may at h
  refine lv_aload_n hx hb dX4_may_0 rfl (lv_at hl 0 rfl) ?_
  refine jf_get hx hb hts in_X4 hown hV hP (ci := 3) (k := 0) (jf_oP ho) rfl (by decide) (hts _ q275) rfl rfl dX4_may_1 ?_
  refine lv_iload_n hx hb dX4_may_4 rfl (lv_at hl 1 rfl) ?_
  obtain ⟨j1, ej1, bj1, h⟩ := jx_ga_some h
  obtain ⟨r2, er2, h⟩ := jx_bi_some h
  refine jf_qald hx hb hV hP (jf_aP0 ho) ej1 bj1 er2 dX4_may_5 (fun r2a r2h => ?_)
  refine lv_aload_n hx hb dX4_may_6 rfl (lv_at hl 0 rfl) ?_
  refine lv_iload_n hx hb dX4_may_7 rfl (lv_at hl 1 rfl) ?_
  refine lv_aload_n hx hb dX4_may_8 rfl (lv_at hl 2 rfl) ?_
  refine lv_aload_n hx hb dX4_may_9 rfl (lv_at hl 0 rfl) ?_
  refine jf_get hx hb hts in_X4 hown hV hP (ci := 3) (k := 3) (jf_oP ho) rfl (by decide) (hts _ q284) rfl rfl dX4_may_10 ?_
  refine lv_iload_n hx hb dX4_may_13 rfl (lv_at hl 3 rfl) ?_
  obtain ⟨j3, ej3, bj3, h⟩ := jx_ga_some h
  refine jf_iald hx hb hV hP (jf_aP3 ho) ej3 bj3 dX4_may_14 ?_
  refine lv_aload_n hx hb dX4_may_15 rfl (lv_at hl 0 rfl) ?_
  refine jf_get hx hb hts in_X4 hown hV hP (ci := 3) (k := 8) (jf_oP ho) rfl (by decide) (hts _ q297) rfl rfl dX4_may_16 ?_
  refine lv_iload_n hx hb dX4_may_19 rfl (lv_at hl 3 rfl) ?_
  obtain ⟨j4, ej4, bj4, h⟩ := jx_ga_some h
  refine jf_zald hx hb hV hP (jf_aP8 ho) ej4 bj4 dX4_may_20 ?_
  obtain ⟨q5, eq5, h⟩ := jx_bi_some h
  refine jv_may_X4 hx hb hml hown hts hlv hV ho hga r2h eq5 (Nat.le_of_ble_eq_true rfl) hP hS hl.1 rfl rfl (lv_room (Nat.le_of_ble_eq_true rfl)) dX4_may_21 (fun H locs hP hS => ?_)
  refine lv_aload_n hx hb dX4_may_24 rfl (lv_at hl 0 rfl) ?_
  obtain ⟨q6, eq6, h⟩ := jx_bi_some h
  refine jf_callL hx hb hml hown hts hlv hV (jp_all_met ho eq6) jp_all_g_X4 jp_all_d (As := []) (Nat.le_of_ble_eq_true rfl) (Nat.le_of_ble_eq_true rfl) hP hS (ci := 3) (jf_oP ho) rfl hl.1 rfl rfl (lv_room (Nat.le_of_ble_eq_true rfl)) dX4_may_25 (fun H locs hP hS => ?_)
  refine lv_land hx hb dX4_may_28 ?_
  exact jf_lret hx hb hr hlk hV hP hS h dX4_may_29
theorem jp_may_met {l : Launch} {D : va_G} {E : jf_E} {A : Nat → Prop} {fo : Nat → Nat → Option Nat} {pl : va_W} {F : Nat} {o : Nat} (ho : o = 3 ∨ o = 4) {go gk : Nat} (hga : jf_G go gk) {x1 : Int32} {x3 : Int32} {S : jf_S} {out : Int64 × jf_S} (h : jp_may F o go gk x1 x3 S = some out) : jf_Ml l D E A fo pl yX4_may cX4_may 4 (some .long) 3 [.ref (E.1 o), .int x1, .ref (E.2.1 go gk), .int x3] S out :=
  jf_Ml_of (own := RX4) ⟨by decide, rfl, Nat.le_of_ble_eq_true rfl⟩ (fun hX => jp_may_ok hX F o ho go gk hga x1 x3 S h)
theorem jp_closed_g_X1 : GoodIn lw_all (wsV RX1 328 RX4 yX4_closed (ws_ yX4_closed cX4_closed 8 (some .long))) := lw_V q1471 q1472 q1473 q108 q1474
theorem jp_closed_d : yX4_closed.cls = RX4 ∧ yX4_closed.cls ≠ "java/lang/invoke/MethodHandle" ∧ yX4_closed.cls ≠ "java/lang/invoke/VarHandle" ∧ (parseMethodDescriptor yX4_closed.desc).map (fun d => d.parameters.length) = some 2 := by decide +kernel
theorem jp_closed_b61_ok {out : Int64 × jf_S} (hX : jf_Ok RX4 p R s m args meth c A D E cX4_closed 8 (some .long) 4) (F : Nat) (o : Nat) (ho : o = 3 ∨ o = 4) (go gk : Nat) (hga : jf_G go gk) {r16 : Int32 × Int64 × Int64 × jf_S → Option (Int64 × jf_S)} (hr16 : ∀ a, r16 a = some out → jf_J p l e R s m args below meth c A D E fo pl 8 (jf_Ql below args s A D E fo pl out) 16 [(0, .ref (E.1 o)), (1, .ref (E.2.1 go gk)), (2, .int a.1), (3, .long a.2.1), (5, .long a.2.2.1)] [] a.2.2.2) {r29 : Int32 × Int64 × Int64 × Int32 × jf_S → Option (Int64 × jf_S)} (hr29 : ∀ a, r29 a = some out → jf_J p l e R s m args below meth c A D E fo pl 8 (jf_Ql below args s A D E fo pl out) 29 [(0, .ref (E.1 o)), (1, .ref (E.2.1 go gk)), (2, .int a.1), (3, .long a.2.1), (5, .long a.2.2.1), (7, .int a.2.2.2.1)] [] a.2.2.2.2) (x2 : Int32) (x3 : Int64) (x5 : Int64) (x7 : Int32) (S : jf_S) (h : jp_closed_b61 F o go gk r16 r29 x2 x3 x5 x7 S = some out) : jf_J p l e R s m args below meth c A D E fo pl 8 (jf_Ql below args s A D E fo pl out) 61 [(0, .ref (E.1 o)), (1, .ref (E.2.1 go gk)), (2, .int x2), (3, .long x3), (5, .long x5), (7, .int x7)] [] S := by
  intro H locs ls hP hS hl
  have hX0 := hX
  obtain ⟨hx, hb, hml, hown, hts, hlk, hr, hlv, hV, het⟩ := hX0
  unfold jp_closed_b61 at h
  obtain ⟨y1, ey1, h⟩ := jx_nx_some h
  refine lv_iinc (v := y1) (lv' := [(7, .int y1), (0, .ref (E.1 o)), (1, .ref (E.2.1 go gk)), (2, .int x2), (3, .long x3), (5, .long x5)]) hx hb dX4_closed_61 hl (k := 5) rfl (jx_inc jx_ki1 ey1) (Nat.le_of_ble_eq_true rfl) rfl (fun ls hl => ?_)
  refine lv_goto (tgt := 29) hx hb dX4_closed_64 rfl ?_
  exact hr29 _ h _ _ _ hP hS (lv_sub hl [1, 2, 3, 4, 5, 0] rfl)
theorem jp_closed_L29_ok {out : Int64 × jf_S} (hX : jf_Ok RX4 p R s m args meth c A D E cX4_closed 8 (some .long) 4) (F : Nat) (o : Nat) (ho : o = 3 ∨ o = 4) (go gk : Nat) (hga : jf_G go gk) {r16 : Int32 × Int64 × Int64 × jf_S → Option (Int64 × jf_S)} (hr16 : ∀ a, r16 a = some out → jf_J p l e R s m args below meth c A D E fo pl 8 (jf_Ql below args s A D E fo pl out) 16 [(0, .ref (E.1 o)), (1, .ref (E.2.1 go gk)), (2, .int a.1), (3, .long a.2.1), (5, .long a.2.2.1)] [] a.2.2.2) {r29 : Int32 × Int64 × Int64 × Int32 × jf_S → Option (Int64 × jf_S)} (hr29 : ∀ a, r29 a = some out → jf_J p l e R s m args below meth c A D E fo pl 8 (jf_Ql below args s A D E fo pl out) 29 [(0, .ref (E.1 o)), (1, .ref (E.2.1 go gk)), (2, .int a.1), (3, .long a.2.1), (5, .long a.2.2.1), (7, .int a.2.2.2.1)] [] a.2.2.2.2) (x2 : Int32) (x3 : Int64) (x5 : Int64) (x7 : Int32) (S : jf_S) (h : jp_closed_L29 F o go gk r16 r29 x2 x3 x5 x7 S = some out) : jf_J p l e R s m args below meth c A D E fo pl 8 (jf_Ql below args s A D E fo pl out) 29 [(0, .ref (E.1 o)), (1, .ref (E.2.1 go gk)), (2, .int x2), (3, .long x3), (5, .long x5), (7, .int x7)] [] S := by
  intro H locs ls hP hS hl
  have hX0 := hX
  obtain ⟨hx, hb, hml, hown, hts, hlk, hr, hlv, hV, het⟩ := hX0
  unfold jp_closed_L29 at h
  refine lv_iload hx hb dX4_closed_29 (lv_at hl 5 rfl) ?_
  refine lv_aload_n hx hb dX4_closed_31 rfl (lv_at hl 0 rfl) ?_
  refine jf_get hx hb hts in_X4 hown hV hP (ci := 3) (k := 13) (jf_oP ho) rfl (by decide) (hts _ q308) rfl rfl dX4_closed_32 ?_
  refine lv_icmp_ge (tgt := 67) hx hb dX4_closed_35 rfl (fun c1 => ?_) (fun c1 => ?_)
  · rw [if_pos c1] at h
    refine lv_goto (tgt := 16) hx hb dX4_closed_67 rfl ?_
    exact hr16 _ h _ _ _ hP hS (lv_sub hl [0, 1, 2, 3, 4] rfl)
  · rw [if_neg c1] at h
    refine lv_lload hx hb dX4_closed_38 (lv_at hl 4 rfl) ?_
    refine lv_iload hx hb dX4_closed_40 (lv_at hl 5 rfl) ?_
    refine lv_lshr hx hb dX4_closed_42 rfl ?_
    refine lv_lconst hx hb dX4_closed_43 jx_kl1 ?_
    refine lv_land hx hb dX4_closed_44 ?_
    refine lv_lconst hx hb dX4_closed_45 jx_kl1 ?_
    refine W.lcmp hx hb dX4_closed_46 ?_
    refine lv_if_ne (tgt := 61) hx hb dX4_closed_47 rfl (fun c2 => ?_) (fun c2 => ?_)
    · rw [if_neg c2] at h
      exact jp_closed_b61_ok hX F o ho go gk hga hr16 hr29 _ _ _ _ _ h _ _ _ hP hS hl
    · rw [if_pos c2] at h
      refine lv_lload_n hx hb dX4_closed_50 rfl (lv_at hl 3 rfl) ?_
      refine lv_aload_n hx hb dX4_closed_51 rfl (lv_at hl 0 rfl) ?_
      refine lv_iload hx hb dX4_closed_52 (lv_at hl 5 rfl) ?_
      refine lv_aload_n hx hb dX4_closed_54 rfl (lv_at hl 1 rfl) ?_
      refine lv_iload_n hx hb dX4_closed_55 rfl (lv_at hl 2 rfl) ?_
      obtain ⟨q3, eq3, h⟩ := jx_bi_some h
      refine jf_callL hx hb hml hown hts hlv hV (jp_may_met ho hga eq3) jp_may_g_X4 jp_may_d (As := [.int x7, .ref (E.2.1 go gk), .int x2]) (Nat.le_of_ble_eq_true rfl) (Nat.le_of_ble_eq_true rfl) hP hS (ci := 3) (jf_oP ho) rfl hl.1 rfl rfl (lv_room (Nat.le_of_ble_eq_true rfl)) dX4_closed_56 (fun H locs hP hS => ?_)
      refine lv_lor hx hb dX4_closed_59 ?_
      obtain ⟨y4, ey4, h⟩ := jx_nx_some h
      refine jx_topl ey4 ?_
      refine lv_lstore_n (lv' := [(3, .long y4), (0, .ref (E.1 o)), (1, .ref (E.2.1 go gk)), (2, .int x2), (5, .long x5), (7, .int x7)]) hx hb dX4_closed_60 rfl hl (Nat.le_of_ble_eq_true rfl) rfl (fun ls hl => ?_)
      exact jp_closed_b61_ok hX F o ho go gk hga hr16 hr29 _ _ _ _ _ h _ _ _ hP hS (lv_sub hl [1, 2, 3, 0, 4, 5] rfl)
theorem jp_closed_h29_ok {out : Int64 × jf_S} (hX : jf_Ok RX4 p R s m args meth c A D E cX4_closed 8 (some .long) 4) (F : Nat) (o : Nat) (ho : o = 3 ∨ o = 4) (go gk : Nat) (hga : jf_G go gk) {r16 : Int32 × Int64 × Int64 × jf_S → Option (Int64 × jf_S)} (hr16 : ∀ a, r16 a = some out → jf_J p l e R s m args below meth c A D E fo pl 8 (jf_Ql below args s A D E fo pl out) 16 [(0, .ref (E.1 o)), (1, .ref (E.2.1 go gk)), (2, .int a.1), (3, .long a.2.1), (5, .long a.2.2.1)] [] a.2.2.2) (n : Nat) (a : Int32 × Int64 × Int64 × Int32 × jf_S) (h : jp_closed_h29 F o go gk r16 n a = some out) : jf_J p l e R s m args below meth c A D E fo pl 8 (jf_Ql below args s A D E fo pl out) 29 [(0, .ref (E.1 o)), (1, .ref (E.2.1 go gk)), (2, .int a.1), (3, .long a.2.1), (5, .long a.2.2.1), (7, .int a.2.2.2.1)] [] a.2.2.2.2 :=
  jx_loop_ind (J := fun a => jf_J p l e R s m args below meth c A D E fo pl 8 (jf_Ql below args s A D E fo pl out) 29 [(0, .ref (E.1 o)), (1, .ref (E.2.1 go gk)), (2, .int a.1), (3, .long a.2.1), (5, .long a.2.2.1), (7, .int a.2.2.2.1)] [] a.2.2.2.2) (fun r hr a h => jp_closed_L29_ok hX F o ho go gk hga hr16 hr a.1 a.2.1 a.2.2.1 a.2.2.2.1 a.2.2.2.2 h) n a h
theorem jp_closed_L16_ok {out : Int64 × jf_S} (hX : jf_Ok RX4 p R s m args meth c A D E cX4_closed 8 (some .long) 4) (F : Nat) (o : Nat) (ho : o = 3 ∨ o = 4) (go gk : Nat) (hga : jf_G go gk) {r16 : Int32 × Int64 × Int64 × jf_S → Option (Int64 × jf_S)} (hr16 : ∀ a, r16 a = some out → jf_J p l e R s m args below meth c A D E fo pl 8 (jf_Ql below args s A D E fo pl out) 16 [(0, .ref (E.1 o)), (1, .ref (E.2.1 go gk)), (2, .int a.1), (3, .long a.2.1), (5, .long a.2.2.1)] [] a.2.2.2) (x2 : Int32) (x3 : Int64) (x5 : Int64) (S : jf_S) (h : jp_closed_L16 F o go gk r16 x2 x3 x5 S = some out) : jf_J p l e R s m args below meth c A D E fo pl 8 (jf_Ql below args s A D E fo pl out) 16 [(0, .ref (E.1 o)), (1, .ref (E.2.1 go gk)), (2, .int x2), (3, .long x3), (5, .long x5)] [] S := by
  intro H locs ls hP hS hl
  have hX0 := hX
  obtain ⟨hx, hb, hml, hown, hts, hlk, hr, hlv, hV, het⟩ := hX0
  unfold jp_closed_L16 at h
  refine lv_lload_n hx hb dX4_closed_16 rfl (lv_at hl 3 rfl) ?_
  refine lv_lload hx hb dX4_closed_17 (lv_at hl 4 rfl) ?_
  refine W.lcmp hx hb dX4_closed_19 ?_
  refine lv_if_eq (tgt := 70) hx hb dX4_closed_20 rfl (fun c1 => ?_) (fun c1 => ?_)
  · rw [if_pos c1] at h
    refine lv_lload_n hx hb dX4_closed_70 rfl (lv_at hl 3 rfl) ?_
    exact jf_lret hx hb hr hlk hV hP hS h dX4_closed_71
  · rw [if_neg c1] at h
    refine lv_lload_n hx hb dX4_closed_23 rfl (lv_at hl 3 rfl) ?_
    refine lv_lstore (lv' := [(5, .long x3), (0, .ref (E.1 o)), (1, .ref (E.2.1 go gk)), (2, .int x2), (3, .long x3)]) hx hb dX4_closed_24 hl (Nat.le_of_ble_eq_true rfl) rfl (fun ls hl => ?_)
    refine lv_iconst hx hb dX4_closed_26 jx_ki0 ?_
    obtain ⟨y2, ey2, h⟩ := jx_nx_some h
    refine jx_topi ey2 ?_
    refine lv_istore (lv' := [(7, .int y2), (5, .long x3), (0, .ref (E.1 o)), (1, .ref (E.2.1 go gk)), (2, .int x2), (3, .long x3)]) hx hb dX4_closed_27 hl (Nat.le_of_ble_eq_true rfl) rfl (fun ls hl => ?_)
    exact jp_closed_h29_ok hX F o ho go gk hga hr16 F _ h _ _ _ hP hS (lv_sub hl [2, 3, 4, 5, 1, 0] rfl)
theorem jp_closed_h16_ok {out : Int64 × jf_S} (hX : jf_Ok RX4 p R s m args meth c A D E cX4_closed 8 (some .long) 4) (F : Nat) (o : Nat) (ho : o = 3 ∨ o = 4) (go gk : Nat) (hga : jf_G go gk) (n : Nat) (a : Int32 × Int64 × Int64 × jf_S) (h : jp_closed_h16 F o go gk n a = some out) : jf_J p l e R s m args below meth c A D E fo pl 8 (jf_Ql below args s A D E fo pl out) 16 [(0, .ref (E.1 o)), (1, .ref (E.2.1 go gk)), (2, .int a.1), (3, .long a.2.1), (5, .long a.2.2.1)] [] a.2.2.2 :=
  jx_loop_ind (J := fun a => jf_J p l e R s m args below meth c A D E fo pl 8 (jf_Ql below args s A D E fo pl out) 16 [(0, .ref (E.1 o)), (1, .ref (E.2.1 go gk)), (2, .int a.1), (3, .long a.2.1), (5, .long a.2.2.1)] [] a.2.2.2) (fun r hr a h => jp_closed_L16_ok hX F o ho go gk hga hr a.1 a.2.1 a.2.2.1 a.2.2.2 h) n a h
theorem jp_closed_b12_ok {out : Int64 × jf_S} (hX : jf_Ok RX4 p R s m args meth c A D E cX4_closed 8 (some .long) 4) (F : Nat) (o : Nat) (ho : o = 3 ∨ o = 4) (go gk : Nat) (hga : jf_G go gk) (x2 : Int32) (k0 : Int64) (S : jf_S) (h : jp_closed_b12 F o go gk x2 k0 S = some out) : jf_J p l e R s m args below meth c A D E fo pl 8 (jf_Ql below args s A D E fo pl out) 12 [(0, .ref (E.1 o)), (1, .ref (E.2.1 go gk)), (2, .int x2)] [.long k0] S := by
  intro H locs ls hP hS hl
  have hX0 := hX
  obtain ⟨hx, hb, hml, hown, hts, hlk, hr, hlv, hV, het⟩ := hX0
  unfold jp_closed_b12 at h
  refine lv_lstore_n (lv' := [(3, .long k0), (0, .ref (E.1 o)), (1, .ref (E.2.1 go gk)), (2, .int x2)]) hx hb dX4_closed_12 rfl hl (Nat.le_of_ble_eq_true rfl) rfl (fun ls hl => ?_)
  refine lv_lconst hx hb dX4_closed_13 jx_kl0 ?_
  obtain ⟨y1, ey1, h⟩ := jx_nx_some h
  refine jx_topl ey1 ?_
  refine lv_lstore (lv' := [(5, .long y1), (3, .long k0), (0, .ref (E.1 o)), (1, .ref (E.2.1 go gk)), (2, .int x2)]) hx hb dX4_closed_14 hl (Nat.le_of_ble_eq_true rfl) rfl (fun ls hl => ?_)
  exact jp_closed_h16_ok hX F o ho go gk hga F _ h _ _ _ hP hS (lv_sub hl [2, 3, 4, 1, 0] rfl)
theorem jp_closed_ok {out : Int64 × jf_S} (hX : jf_Ok RX4 p R s m args meth c A D E cX4_closed 8 (some .long) 4) (F : Nat) (o : Nat) (ho : o = 3 ∨ o = 4) (go gk : Nat) (hga : jf_G go gk) (x2 : Int32) (S : jf_S) (h : jp_closed F o go gk x2 S = some out) : jf_J p l e R s m args below meth c A D E fo pl 8 (jf_Ql below args s A D E fo pl out) 0 [(0, .ref (E.1 o)), (1, .ref (E.2.1 go gk)), (2, .int x2)] [] S := by
  intro H locs ls hP hS hl
  have hX0 := hX
  obtain ⟨hx, hb, hml, hown, hts, hlk, hr, hlv, hV, het⟩ := hX0
  unfold jp_closed at h
  refine lv_aload_n hx hb dX4_closed_0 rfl (lv_at hl 0 rfl) ?_
  refine jf_get hx hb hts in_X4 hown hV hP (ci := 3) (k := 13) (jf_oP ho) rfl (by decide) (hts _ q308) rfl rfl dX4_closed_1 ?_
  refine lv_if_ne (tgt := 11) hx hb dX4_closed_4 rfl (fun c1 => ?_) (fun c1 => ?_)
  · rw [if_neg c1] at h
    refine lv_lconst hx hb dX4_closed_11 jx_kl1 ?_
    exact jp_closed_b12_ok hX F o ho go gk hga _ _ _ h _ _ _ hP hS hl
  · rw [if_pos c1] at h
    refine lv_lconst hx hb dX4_closed_7 jx_kl0 ?_
    refine lv_goto (tgt := 12) hx hb dX4_closed_8 rfl ?_
    exact jp_closed_b12_ok hX F o ho go gk hga _ _ _ h _ _ _ hP hS hl
theorem jp_closed_met {l : Launch} {D : va_G} {E : jf_E} {A : Nat → Prop} {fo : Nat → Nat → Option Nat} {pl : va_W} {F : Nat} {o : Nat} (ho : o = 3 ∨ o = 4) {go gk : Nat} (hga : jf_G go gk) {x2 : Int32} {S : jf_S} {out : Int64 × jf_S} (h : jp_closed F o go gk x2 S = some out) : jf_Ml l D E A fo pl yX4_closed cX4_closed 8 (some .long) 4 [.ref (E.1 o), .ref (E.2.1 go gk), .int x2] S out :=
  jf_Ml_of (own := RX4) ⟨by decide, rfl, Nat.le_of_ble_eq_true rfl⟩ (fun hX => jp_closed_ok hX F o ho go gk hga x2 S h)
end
